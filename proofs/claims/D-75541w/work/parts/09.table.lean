set_option maxRecDepth 100000
def dkwX10_init_0 : List UInt8 := [42, 183, 0, 1, 42, 27, 181, 0, 7, 42, 28, 181, 0, 13, 42, 29, 181, 0, 16, 177]
abbrev dktX10_init_0 : List UInt8 := dkwX10_init_0 ++ []
theorem dksX10_init_0 : cX10_init.data.toList.drop 0 = dktX10_init_0 := by decide +kernel
theorem dX10_init_0 : decode cX10_init 0 = .ok (.aload_n 0, 1) := dk_42 (dk_at dksX10_init_0 0 rfl rfl)
theorem dX10_init_1 : decode cX10_init 1 = .ok (.invokespecial 1, 3) := dk_183 0 1 (dk_at dksX10_init_0 1 rfl rfl)
theorem dX10_init_4 : decode cX10_init 4 = .ok (.aload_n 0, 1) := dk_42 (dk_at dksX10_init_0 4 rfl rfl)
theorem dX10_init_5 : decode cX10_init 5 = .ok (.iload_n 1, 1) := dk_27 (dk_at dksX10_init_0 5 rfl rfl)
theorem dX10_init_6 : decode cX10_init 6 = .ok (.putfield 7, 3) := dk_181 0 7 (dk_at dksX10_init_0 6 rfl rfl)
theorem dX10_init_9 : decode cX10_init 9 = .ok (.aload_n 0, 1) := dk_42 (dk_at dksX10_init_0 9 rfl rfl)
theorem dX10_init_10 : decode cX10_init 10 = .ok (.iload_n 2, 1) := dk_28 (dk_at dksX10_init_0 10 rfl rfl)
theorem dX10_init_11 : decode cX10_init 11 = .ok (.putfield 13, 3) := dk_181 0 13 (dk_at dksX10_init_0 11 rfl rfl)
theorem dX10_init_14 : decode cX10_init 14 = .ok (.aload_n 0, 1) := dk_42 (dk_at dksX10_init_0 14 rfl rfl)
theorem dX10_init_15 : decode cX10_init 15 = .ok (.iload_n 3, 1) := dk_29 (dk_at dksX10_init_0 15 rfl rfl)
theorem dX10_init_16 : decode cX10_init 16 = .ok (.putfield 16, 3) := dk_181 0 16 (dk_at dksX10_init_0 16 rfl rfl)
theorem dX10_init_19 : decode cX10_init 19 = .ok (.return_, 1) := dk_177 (dk_at dksX10_init_0 19 rfl rfl)
theorem dX10_color_0 : decode cX10_color 0 = .ok (.aload_n 0, 1) := by decide +kernel
theorem dX10_color_1 : decode cX10_color 1 = .ok (.getfield 13, 3) := by decide +kernel
theorem dX10_color_4 : decode cX10_color 4 = .ok (.ireturn, 1) := by decide +kernel
theorem dX10_rank_0 : decode cX10_rank 0 = .ok (.aload_n 0, 1) := by decide +kernel
theorem dX10_rank_1 : decode cX10_rank 1 = .ok (.getfield 16, 3) := by decide +kernel
theorem dX10_rank_4 : decode cX10_rank 4 = .ok (.ireturn, 1) := by decide +kernel
def dkwX10_told_0 : List UInt8 := [16, 10, 42, 180, 0, 13, 104, 42, 180, 0, 16, 96, 172]
abbrev dktX10_told_0 : List UInt8 := dkwX10_told_0 ++ []
theorem dksX10_told_0 : cX10_told.data.toList.drop 0 = dktX10_told_0 := by decide +kernel
theorem dX10_told_0 : decode cX10_told 0 = .ok (.bipush 10, 2) := dk_16 10 (dk_at dksX10_told_0 0 rfl rfl)
theorem dX10_told_2 : decode cX10_told 2 = .ok (.aload_n 0, 1) := dk_42 (dk_at dksX10_told_0 2 rfl rfl)
theorem dX10_told_3 : decode cX10_told 3 = .ok (.getfield 13, 3) := dk_180 0 13 (dk_at dksX10_told_0 3 rfl rfl)
theorem dX10_told_6 : decode cX10_told 6 = .ok (.imul, 1) := dk_104 (dk_at dksX10_told_0 6 rfl rfl)
theorem dX10_told_7 : decode cX10_told 7 = .ok (.aload_n 0, 1) := dk_42 (dk_at dksX10_told_0 7 rfl rfl)
theorem dX10_told_8 : decode cX10_told 8 = .ok (.getfield 16, 3) := dk_180 0 16 (dk_at dksX10_told_0 8 rfl rfl)
theorem dX10_told_11 : decode cX10_told 11 = .ok (.iadd, 1) := dk_96 (dk_at dksX10_told_0 11 rfl rfl)
theorem dX10_told_12 : decode cX10_told 12 = .ok (.ireturn, 1) := dk_172 (dk_at dksX10_told_0 12 rfl rfl)
theorem dX10_id_0 : decode cX10_id 0 = .ok (.aload_n 0, 1) := by decide +kernel
theorem dX10_id_1 : decode cX10_id 1 = .ok (.getfield 7, 3) := by decide +kernel
theorem dX10_id_4 : decode cX10_id 4 = .ok (.ireturn, 1) := by decide +kernel
def dkwX10_written_1 : List UInt8 := [180, 0, 16, 182, 0, 31, 182, 0, 34, 176]
abbrev dktX10_written_1 : List UInt8 := dkwX10_written_1 ++ []
def dkwX10_written_0 : List UInt8 := [187, 0, 19, 89, 183, 0, 21, 18, 22, 182, 0, 24, 16, 97, 42, 180, 0, 13, 96, 146, 182, 0, 28, 42]
abbrev dktX10_written_0 : List UInt8 := dkwX10_written_0 ++ dktX10_written_1
theorem dksX10_written_0 : cX10_written.data.toList.drop 0 = dktX10_written_0 := by decide +kernel
theorem dksX10_written_1 : cX10_written.data.toList.drop 24 = dktX10_written_1 := dk_seg dksX10_written_0 24 rfl rfl
theorem dX10_written_0 : decode cX10_written 0 = .ok (.new 19, 3) := dk_187 0 19 (dk_at dksX10_written_0 0 rfl rfl)
theorem dX10_written_3 : decode cX10_written 3 = .ok (.dup, 1) := dk_89 (dk_at dksX10_written_0 3 rfl rfl)
theorem dX10_written_4 : decode cX10_written 4 = .ok (.invokespecial 21, 3) := dk_183 0 21 (dk_at dksX10_written_0 4 rfl rfl)
theorem dX10_written_7 : decode cX10_written 7 = .ok (.ldc 22, 2) := dk_18 22 (dk_at dksX10_written_0 7 rfl rfl)
theorem dX10_written_9 : decode cX10_written 9 = .ok (.invokevirtual 24, 3) := dk_182 0 24 (dk_at dksX10_written_0 9 rfl rfl)
theorem dX10_written_12 : decode cX10_written 12 = .ok (.bipush 97, 2) := dk_16 97 (dk_at dksX10_written_0 12 rfl rfl)
theorem dX10_written_14 : decode cX10_written 14 = .ok (.aload_n 0, 1) := dk_42 (dk_at dksX10_written_0 14 rfl rfl)
theorem dX10_written_15 : decode cX10_written 15 = .ok (.getfield 13, 3) := dk_180 0 13 (dk_at dksX10_written_0 15 rfl rfl)
theorem dX10_written_18 : decode cX10_written 18 = .ok (.iadd, 1) := dk_96 (dk_at dksX10_written_0 18 rfl rfl)
theorem dX10_written_19 : decode cX10_written 19 = .ok (.i2c, 1) := dk_146 (dk_at dksX10_written_0 19 rfl rfl)
theorem dX10_written_20 : decode cX10_written 20 = .ok (.invokevirtual 28, 3) := dk_182 0 28 (dk_at dksX10_written_0 20 rfl rfl)
theorem dX10_written_23 : decode cX10_written 23 = .ok (.aload_n 0, 1) := dk_42 (dk_at dksX10_written_0 23 rfl rfl)
theorem dX10_written_24 : decode cX10_written 24 = .ok (.getfield 16, 3) := dk_180 0 16 (dk_at dksX10_written_1 0 rfl rfl)
theorem dX10_written_27 : decode cX10_written 27 = .ok (.invokevirtual 31, 3) := dk_182 0 31 (dk_at dksX10_written_1 3 rfl rfl)
theorem dX10_written_30 : decode cX10_written 30 = .ok (.invokevirtual 34, 3) := dk_182 0 34 (dk_at dksX10_written_1 6 rfl rfl)
theorem dX10_written_33 : decode cX10_written 33 = .ok (.areturn, 1) := dk_176 (dk_at dksX10_written_1 9 rfl rfl)
def dkwX11_init_1 : List UInt8 := [181, 0, 22, 177]
abbrev dktX11_init_1 : List UInt8 := dkwX11_init_1 ++ []
def dkwX11_init_0 : List UInt8 := [42, 43, 181, 0, 3, 42, 43, 183, 0, 9, 42, 28, 181, 0, 15, 42, 29, 181, 0, 19, 42, 21, 4]
abbrev dktX11_init_0 : List UInt8 := dkwX11_init_0 ++ dktX11_init_1
theorem dksX11_init_0 : cX11_init.data.toList.drop 0 = dktX11_init_0 := by decide +kernel
theorem dksX11_init_1 : cX11_init.data.toList.drop 23 = dktX11_init_1 := dk_seg dksX11_init_0 23 rfl rfl
theorem dX11_init_0 : decode cX11_init 0 = .ok (.aload_n 0, 1) := dk_42 (dk_at dksX11_init_0 0 rfl rfl)
theorem dX11_init_1 : decode cX11_init 1 = .ok (.aload_n 1, 1) := dk_43 (dk_at dksX11_init_0 1 rfl rfl)
theorem dX11_init_2 : decode cX11_init 2 = .ok (.putfield 3, 3) := dk_181 0 3 (dk_at dksX11_init_0 2 rfl rfl)
theorem dX11_init_5 : decode cX11_init 5 = .ok (.aload_n 0, 1) := dk_42 (dk_at dksX11_init_0 5 rfl rfl)
theorem dX11_init_6 : decode cX11_init 6 = .ok (.aload_n 1, 1) := dk_43 (dk_at dksX11_init_0 6 rfl rfl)
theorem dX11_init_7 : decode cX11_init 7 = .ok (.invokespecial 9, 3) := dk_183 0 9 (dk_at dksX11_init_0 7 rfl rfl)
theorem dX11_init_10 : decode cX11_init 10 = .ok (.aload_n 0, 1) := dk_42 (dk_at dksX11_init_0 10 rfl rfl)
theorem dX11_init_11 : decode cX11_init 11 = .ok (.iload_n 2, 1) := dk_28 (dk_at dksX11_init_0 11 rfl rfl)
theorem dX11_init_12 : decode cX11_init 12 = .ok (.putfield 15, 3) := dk_181 0 15 (dk_at dksX11_init_0 12 rfl rfl)
theorem dX11_init_15 : decode cX11_init 15 = .ok (.aload_n 0, 1) := dk_42 (dk_at dksX11_init_0 15 rfl rfl)
theorem dX11_init_16 : decode cX11_init 16 = .ok (.iload_n 3, 1) := dk_29 (dk_at dksX11_init_0 16 rfl rfl)
theorem dX11_init_17 : decode cX11_init 17 = .ok (.putfield 19, 3) := dk_181 0 19 (dk_at dksX11_init_0 17 rfl rfl)
theorem dX11_init_20 : decode cX11_init 20 = .ok (.aload_n 0, 1) := dk_42 (dk_at dksX11_init_0 20 rfl rfl)
theorem dX11_init_21 : decode cX11_init 21 = .ok (.iload 4, 2) := dk_21 4 (dk_at dksX11_init_0 21 rfl rfl)
theorem dX11_init_23 : decode cX11_init 23 = .ok (.putfield 22, 3) := dk_181 0 22 (dk_at dksX11_init_1 0 rfl rfl)
theorem dX11_init_26 : decode cX11_init 26 = .ok (.return_, 1) := dk_177 (dk_at dksX11_init_1 3 rfl rfl)
def dkwX11_run_0 : List UInt8 := [42, 180, 0, 3, 180, 0, 25, 42, 180, 0, 15, 42, 180, 0, 19, 42, 180, 0, 22, 182, 0, 29, 60, 177]
abbrev dktX11_run_0 : List UInt8 := dkwX11_run_0 ++ []
theorem dksX11_run_0 : cX11_run.data.toList.drop 0 = dktX11_run_0 := by decide +kernel
theorem dX11_run_0 : decode cX11_run 0 = .ok (.aload_n 0, 1) := dk_42 (dk_at dksX11_run_0 0 rfl rfl)
theorem dX11_run_1 : decode cX11_run 1 = .ok (.getfield 3, 3) := dk_180 0 3 (dk_at dksX11_run_0 1 rfl rfl)
theorem dX11_run_4 : decode cX11_run 4 = .ok (.getfield 25, 3) := dk_180 0 25 (dk_at dksX11_run_0 4 rfl rfl)
theorem dX11_run_7 : decode cX11_run 7 = .ok (.aload_n 0, 1) := dk_42 (dk_at dksX11_run_0 7 rfl rfl)
theorem dX11_run_8 : decode cX11_run 8 = .ok (.getfield 15, 3) := dk_180 0 15 (dk_at dksX11_run_0 8 rfl rfl)
theorem dX11_run_11 : decode cX11_run 11 = .ok (.aload_n 0, 1) := dk_42 (dk_at dksX11_run_0 11 rfl rfl)
theorem dX11_run_12 : decode cX11_run 12 = .ok (.getfield 19, 3) := dk_180 0 19 (dk_at dksX11_run_0 12 rfl rfl)
theorem dX11_run_15 : decode cX11_run 15 = .ok (.aload_n 0, 1) := dk_42 (dk_at dksX11_run_0 15 rfl rfl)
theorem dX11_run_16 : decode cX11_run 16 = .ok (.getfield 22, 3) := dk_180 0 22 (dk_at dksX11_run_0 16 rfl rfl)
theorem dX11_run_19 : decode cX11_run 19 = .ok (.invokevirtual 29, 3) := dk_182 0 29 (dk_at dksX11_run_0 19 rfl rfl)
theorem dX11_run_22 : decode cX11_run 22 = .ok (.istore_n 1, 1) := dk_60 (dk_at dksX11_run_0 22 rfl rfl)
theorem dX11_run_23 : decode cX11_run 23 = .ok (.return_, 1) := dk_177 (dk_at dksX11_run_0 23 rfl rfl)
theorem dX11_kind_0 : decode cX11_kind 0 = .ok (.iconst 2, 1) := by decide +kernel
theorem dX11_kind_1 : decode cX11_kind 1 = .ok (.ireturn, 1) := by decide +kernel
def dkwX11_part_1 : List UInt8 := [42, 180, 0, 22, 172]
abbrev dktX11_part_1 : List UInt8 := dkwX11_part_1 ++ []
def dkwX11_part_0 : List UInt8 := [27, 4, 160, 0, 10, 42, 180, 0, 15, 167, 0, 19, 27, 5, 160, 0, 10, 42, 180, 0, 19, 167, 0, 7]
abbrev dktX11_part_0 : List UInt8 := dkwX11_part_0 ++ dktX11_part_1
theorem dksX11_part_0 : cX11_part.data.toList.drop 0 = dktX11_part_0 := by decide +kernel
theorem dksX11_part_1 : cX11_part.data.toList.drop 24 = dktX11_part_1 := dk_seg dksX11_part_0 24 rfl rfl
theorem dX11_part_0 : decode cX11_part 0 = .ok (.iload_n 1, 1) := dk_27 (dk_at dksX11_part_0 0 rfl rfl)
theorem dX11_part_1 : decode cX11_part 1 = .ok (.iconst 1, 1) := dk_4 (dk_at dksX11_part_0 1 rfl rfl)
theorem dX11_part_2 : decode cX11_part 2 = .ok (.if_icmp .ne 10, 3) := dk_160 0 10 (dk_at dksX11_part_0 2 rfl rfl)
theorem dX11_part_5 : decode cX11_part 5 = .ok (.aload_n 0, 1) := dk_42 (dk_at dksX11_part_0 5 rfl rfl)
theorem dX11_part_6 : decode cX11_part 6 = .ok (.getfield 15, 3) := dk_180 0 15 (dk_at dksX11_part_0 6 rfl rfl)
theorem dX11_part_9 : decode cX11_part 9 = .ok (.goto 19, 3) := dk_167 0 19 (dk_at dksX11_part_0 9 rfl rfl)
theorem dX11_part_12 : decode cX11_part 12 = .ok (.iload_n 1, 1) := dk_27 (dk_at dksX11_part_0 12 rfl rfl)
theorem dX11_part_13 : decode cX11_part 13 = .ok (.iconst 2, 1) := dk_5 (dk_at dksX11_part_0 13 rfl rfl)
theorem dX11_part_14 : decode cX11_part 14 = .ok (.if_icmp .ne 10, 3) := dk_160 0 10 (dk_at dksX11_part_0 14 rfl rfl)
theorem dX11_part_17 : decode cX11_part 17 = .ok (.aload_n 0, 1) := dk_42 (dk_at dksX11_part_0 17 rfl rfl)
theorem dX11_part_18 : decode cX11_part 18 = .ok (.getfield 19, 3) := dk_180 0 19 (dk_at dksX11_part_0 18 rfl rfl)
theorem dX11_part_21 : decode cX11_part 21 = .ok (.goto 7, 3) := dk_167 0 7 (dk_at dksX11_part_0 21 rfl rfl)
theorem dX11_part_24 : decode cX11_part 24 = .ok (.aload_n 0, 1) := dk_42 (dk_at dksX11_part_1 0 rfl rfl)
theorem dX11_part_25 : decode cX11_part 25 = .ok (.getfield 22, 3) := dk_180 0 22 (dk_at dksX11_part_1 1 rfl rfl)
theorem dX11_part_28 : decode cX11_part 28 = .ok (.ireturn, 1) := dk_172 (dk_at dksX11_part_1 4 rfl rfl)
def dkwX12_isOf_1 : List UInt8 := [180, 0, 9, 182, 0, 35, 28, 160, 0, 7, 4, 167, 0, 4, 3, 172]
abbrev dktX12_isOf_1 : List UInt8 := dkwX12_isOf_1 ++ []
def dkwX12_isOf_0 : List UInt8 := [27, 154, 0, 22, 42, 180, 0, 9, 182, 0, 29, 28, 160, 0, 7, 4, 167, 0, 23, 3, 167, 0, 19, 42]
abbrev dktX12_isOf_0 : List UInt8 := dkwX12_isOf_0 ++ dktX12_isOf_1
theorem dksX12_isOf_0 : cX12_isOf.data.toList.drop 0 = dktX12_isOf_0 := by decide +kernel
theorem dksX12_isOf_1 : cX12_isOf.data.toList.drop 24 = dktX12_isOf_1 := dk_seg dksX12_isOf_0 24 rfl rfl
theorem dX12_isOf_0 : decode cX12_isOf 0 = .ok (.iload_n 1, 1) := dk_27 (dk_at dksX12_isOf_0 0 rfl rfl)
theorem dX12_isOf_1 : decode cX12_isOf 1 = .ok (.ifCond .ne 22, 3) := dk_154 0 22 (dk_at dksX12_isOf_0 1 rfl rfl)
theorem dX12_isOf_4 : decode cX12_isOf 4 = .ok (.aload_n 0, 1) := dk_42 (dk_at dksX12_isOf_0 4 rfl rfl)
theorem dX12_isOf_5 : decode cX12_isOf 5 = .ok (.getfield 9, 3) := dk_180 0 9 (dk_at dksX12_isOf_0 5 rfl rfl)
theorem dX12_isOf_8 : decode cX12_isOf 8 = .ok (.invokevirtual 29, 3) := dk_182 0 29 (dk_at dksX12_isOf_0 8 rfl rfl)
theorem dX12_isOf_11 : decode cX12_isOf 11 = .ok (.iload_n 2, 1) := dk_28 (dk_at dksX12_isOf_0 11 rfl rfl)
theorem dX12_isOf_12 : decode cX12_isOf 12 = .ok (.if_icmp .ne 7, 3) := dk_160 0 7 (dk_at dksX12_isOf_0 12 rfl rfl)
theorem dX12_isOf_15 : decode cX12_isOf 15 = .ok (.iconst 1, 1) := dk_4 (dk_at dksX12_isOf_0 15 rfl rfl)
theorem dX12_isOf_16 : decode cX12_isOf 16 = .ok (.goto 23, 3) := dk_167 0 23 (dk_at dksX12_isOf_0 16 rfl rfl)
theorem dX12_isOf_19 : decode cX12_isOf 19 = .ok (.iconst 0, 1) := dk_3 (dk_at dksX12_isOf_0 19 rfl rfl)
theorem dX12_isOf_20 : decode cX12_isOf 20 = .ok (.goto 19, 3) := dk_167 0 19 (dk_at dksX12_isOf_0 20 rfl rfl)
theorem dX12_isOf_23 : decode cX12_isOf 23 = .ok (.aload_n 0, 1) := dk_42 (dk_at dksX12_isOf_0 23 rfl rfl)
theorem dX12_isOf_24 : decode cX12_isOf 24 = .ok (.getfield 9, 3) := dk_180 0 9 (dk_at dksX12_isOf_1 0 rfl rfl)
theorem dX12_isOf_27 : decode cX12_isOf 27 = .ok (.invokevirtual 35, 3) := dk_182 0 35 (dk_at dksX12_isOf_1 3 rfl rfl)
theorem dX12_isOf_30 : decode cX12_isOf 30 = .ok (.iload_n 2, 1) := dk_28 (dk_at dksX12_isOf_1 6 rfl rfl)
theorem dX12_isOf_31 : decode cX12_isOf 31 = .ok (.if_icmp .ne 7, 3) := dk_160 0 7 (dk_at dksX12_isOf_1 7 rfl rfl)
theorem dX12_isOf_34 : decode cX12_isOf 34 = .ok (.iconst 1, 1) := dk_4 (dk_at dksX12_isOf_1 10 rfl rfl)
theorem dX12_isOf_35 : decode cX12_isOf 35 = .ok (.goto 4, 3) := dk_167 0 4 (dk_at dksX12_isOf_1 11 rfl rfl)
theorem dX12_isOf_38 : decode cX12_isOf 38 = .ok (.iconst 0, 1) := dk_3 (dk_at dksX12_isOf_1 14 rfl rfl)
theorem dX12_isOf_39 : decode cX12_isOf 39 = .ok (.ireturn, 1) := dk_172 (dk_at dksX12_isOf_1 15 rfl rfl)
def dkwX12_init_0 : List UInt8 := [42, 183, 0, 3, 42, 43, 181, 0, 9, 42, 28, 181, 0, 15, 42, 29, 181, 0, 19, 177]
abbrev dktX12_init_0 : List UInt8 := dkwX12_init_0 ++ []
theorem dksX12_init_0 : cX12_init.data.toList.drop 0 = dktX12_init_0 := by decide +kernel
theorem dX12_init_0 : decode cX12_init 0 = .ok (.aload_n 0, 1) := dk_42 (dk_at dksX12_init_0 0 rfl rfl)
theorem dX12_init_1 : decode cX12_init 1 = .ok (.invokespecial 3, 3) := dk_183 0 3 (dk_at dksX12_init_0 1 rfl rfl)
theorem dX12_init_4 : decode cX12_init 4 = .ok (.aload_n 0, 1) := dk_42 (dk_at dksX12_init_0 4 rfl rfl)
theorem dX12_init_5 : decode cX12_init 5 = .ok (.aload_n 1, 1) := dk_43 (dk_at dksX12_init_0 5 rfl rfl)
theorem dX12_init_6 : decode cX12_init 6 = .ok (.putfield 9, 3) := dk_181 0 9 (dk_at dksX12_init_0 6 rfl rfl)
theorem dX12_init_9 : decode cX12_init 9 = .ok (.aload_n 0, 1) := dk_42 (dk_at dksX12_init_0 9 rfl rfl)
theorem dX12_init_10 : decode cX12_init 10 = .ok (.iload_n 2, 1) := dk_28 (dk_at dksX12_init_0 10 rfl rfl)
theorem dX12_init_11 : decode cX12_init 11 = .ok (.putfield 15, 3) := dk_181 0 15 (dk_at dksX12_init_0 11 rfl rfl)
theorem dX12_init_14 : decode cX12_init 14 = .ok (.aload_n 0, 1) := dk_42 (dk_at dksX12_init_0 14 rfl rfl)
theorem dX12_init_15 : decode cX12_init 15 = .ok (.iload_n 3, 1) := dk_29 (dk_at dksX12_init_0 15 rfl rfl)
theorem dX12_init_16 : decode cX12_init 16 = .ok (.putfield 19, 3) := dk_181 0 19 (dk_at dksX12_init_0 16 rfl rfl)
theorem dX12_init_19 : decode cX12_init 19 = .ok (.return_, 1) := dk_177 (dk_at dksX12_init_0 19 rfl rfl)
def dkwX12_copy_1 : List UInt8 := [180, 0, 25, 181, 0, 25, 43, 176]
abbrev dktX12_copy_1 : List UInt8 := dkwX12_copy_1 ++ []
def dkwX12_copy_0 : List UInt8 := [187, 0, 10, 89, 42, 180, 0, 9, 42, 180, 0, 15, 42, 180, 0, 19, 183, 0, 22, 76, 43, 42]
abbrev dktX12_copy_0 : List UInt8 := dkwX12_copy_0 ++ dktX12_copy_1
theorem dksX12_copy_0 : cX12_copy.data.toList.drop 0 = dktX12_copy_0 := by decide +kernel
theorem dksX12_copy_1 : cX12_copy.data.toList.drop 22 = dktX12_copy_1 := dk_seg dksX12_copy_0 22 rfl rfl
theorem dX12_copy_0 : decode cX12_copy 0 = .ok (.new 10, 3) := dk_187 0 10 (dk_at dksX12_copy_0 0 rfl rfl)
theorem dX12_copy_3 : decode cX12_copy 3 = .ok (.dup, 1) := dk_89 (dk_at dksX12_copy_0 3 rfl rfl)
theorem dX12_copy_4 : decode cX12_copy 4 = .ok (.aload_n 0, 1) := dk_42 (dk_at dksX12_copy_0 4 rfl rfl)
theorem dX12_copy_5 : decode cX12_copy 5 = .ok (.getfield 9, 3) := dk_180 0 9 (dk_at dksX12_copy_0 5 rfl rfl)
theorem dX12_copy_8 : decode cX12_copy 8 = .ok (.aload_n 0, 1) := dk_42 (dk_at dksX12_copy_0 8 rfl rfl)
theorem dX12_copy_9 : decode cX12_copy 9 = .ok (.getfield 15, 3) := dk_180 0 15 (dk_at dksX12_copy_0 9 rfl rfl)
theorem dX12_copy_12 : decode cX12_copy 12 = .ok (.aload_n 0, 1) := dk_42 (dk_at dksX12_copy_0 12 rfl rfl)
theorem dX12_copy_13 : decode cX12_copy 13 = .ok (.getfield 19, 3) := dk_180 0 19 (dk_at dksX12_copy_0 13 rfl rfl)
theorem dX12_copy_16 : decode cX12_copy 16 = .ok (.invokespecial 22, 3) := dk_183 0 22 (dk_at dksX12_copy_0 16 rfl rfl)
theorem dX12_copy_19 : decode cX12_copy 19 = .ok (.astore_n 1, 1) := dk_76 (dk_at dksX12_copy_0 19 rfl rfl)
theorem dX12_copy_20 : decode cX12_copy 20 = .ok (.aload_n 1, 1) := dk_43 (dk_at dksX12_copy_0 20 rfl rfl)
theorem dX12_copy_21 : decode cX12_copy 21 = .ok (.aload_n 0, 1) := dk_42 (dk_at dksX12_copy_0 21 rfl rfl)
theorem dX12_copy_22 : decode cX12_copy 22 = .ok (.getfield 25, 3) := dk_180 0 25 (dk_at dksX12_copy_1 0 rfl rfl)
theorem dX12_copy_25 : decode cX12_copy 25 = .ok (.putfield 25, 3) := dk_181 0 25 (dk_at dksX12_copy_1 3 rfl rfl)
theorem dX12_copy_28 : decode cX12_copy 28 = .ok (.aload_n 1, 1) := dk_43 (dk_at dksX12_copy_1 6 rfl rfl)
theorem dX12_copy_29 : decode cX12_copy 29 = .ok (.areturn, 1) := dk_176 (dk_at dksX12_copy_1 7 rfl rfl)
def dkwX12_colorsBy_1 : List UInt8 := [180, 0, 15, 4, 28, 120, 2, 130, 126, 167, 0, 7, 42, 180, 0, 15, 172]
abbrev dktX12_colorsBy_1 : List UInt8 := dkwX12_colorsBy_1 ++ []
def dkwX12_colorsBy_0 : List UInt8 := [27, 154, 0, 33, 42, 180, 0, 9, 182, 0, 29, 28, 160, 0, 9, 4, 28, 120, 167, 0, 20, 42]
abbrev dktX12_colorsBy_0 : List UInt8 := dkwX12_colorsBy_0 ++ dktX12_colorsBy_1
theorem dksX12_colorsBy_0 : cX12_colorsBy.data.toList.drop 0 = dktX12_colorsBy_0 := by decide +kernel
theorem dksX12_colorsBy_1 : cX12_colorsBy.data.toList.drop 22 = dktX12_colorsBy_1 := dk_seg dksX12_colorsBy_0 22 rfl rfl
theorem dX12_colorsBy_0 : decode cX12_colorsBy 0 = .ok (.iload_n 1, 1) := dk_27 (dk_at dksX12_colorsBy_0 0 rfl rfl)
theorem dX12_colorsBy_1 : decode cX12_colorsBy 1 = .ok (.ifCond .ne 33, 3) := dk_154 0 33 (dk_at dksX12_colorsBy_0 1 rfl rfl)
theorem dX12_colorsBy_4 : decode cX12_colorsBy 4 = .ok (.aload_n 0, 1) := dk_42 (dk_at dksX12_colorsBy_0 4 rfl rfl)
theorem dX12_colorsBy_5 : decode cX12_colorsBy 5 = .ok (.getfield 9, 3) := dk_180 0 9 (dk_at dksX12_colorsBy_0 5 rfl rfl)
theorem dX12_colorsBy_8 : decode cX12_colorsBy 8 = .ok (.invokevirtual 29, 3) := dk_182 0 29 (dk_at dksX12_colorsBy_0 8 rfl rfl)
theorem dX12_colorsBy_11 : decode cX12_colorsBy 11 = .ok (.iload_n 2, 1) := dk_28 (dk_at dksX12_colorsBy_0 11 rfl rfl)
theorem dX12_colorsBy_12 : decode cX12_colorsBy 12 = .ok (.if_icmp .ne 9, 3) := dk_160 0 9 (dk_at dksX12_colorsBy_0 12 rfl rfl)
theorem dX12_colorsBy_15 : decode cX12_colorsBy 15 = .ok (.iconst 1, 1) := dk_4 (dk_at dksX12_colorsBy_0 15 rfl rfl)
theorem dX12_colorsBy_16 : decode cX12_colorsBy 16 = .ok (.iload_n 2, 1) := dk_28 (dk_at dksX12_colorsBy_0 16 rfl rfl)
theorem dX12_colorsBy_17 : decode cX12_colorsBy 17 = .ok (.ishl, 1) := dk_120 (dk_at dksX12_colorsBy_0 17 rfl rfl)
theorem dX12_colorsBy_18 : decode cX12_colorsBy 18 = .ok (.goto 20, 3) := dk_167 0 20 (dk_at dksX12_colorsBy_0 18 rfl rfl)
theorem dX12_colorsBy_21 : decode cX12_colorsBy 21 = .ok (.aload_n 0, 1) := dk_42 (dk_at dksX12_colorsBy_0 21 rfl rfl)
theorem dX12_colorsBy_22 : decode cX12_colorsBy 22 = .ok (.getfield 15, 3) := dk_180 0 15 (dk_at dksX12_colorsBy_1 0 rfl rfl)
theorem dX12_colorsBy_25 : decode cX12_colorsBy 25 = .ok (.iconst 1, 1) := dk_4 (dk_at dksX12_colorsBy_1 3 rfl rfl)
theorem dX12_colorsBy_26 : decode cX12_colorsBy 26 = .ok (.iload_n 2, 1) := dk_28 (dk_at dksX12_colorsBy_1 4 rfl rfl)
theorem dX12_colorsBy_27 : decode cX12_colorsBy 27 = .ok (.ishl, 1) := dk_120 (dk_at dksX12_colorsBy_1 5 rfl rfl)
theorem dX12_colorsBy_28 : decode cX12_colorsBy 28 = .ok (.iconst (-1), 1) := dk_2 (dk_at dksX12_colorsBy_1 6 rfl rfl)
theorem dX12_colorsBy_29 : decode cX12_colorsBy 29 = .ok (.ixor, 1) := dk_130 (dk_at dksX12_colorsBy_1 7 rfl rfl)
theorem dX12_colorsBy_30 : decode cX12_colorsBy 30 = .ok (.iand, 1) := dk_126 (dk_at dksX12_colorsBy_1 8 rfl rfl)
theorem dX12_colorsBy_31 : decode cX12_colorsBy 31 = .ok (.goto 7, 3) := dk_167 0 7 (dk_at dksX12_colorsBy_1 9 rfl rfl)
theorem dX12_colorsBy_34 : decode cX12_colorsBy 34 = .ok (.aload_n 0, 1) := dk_42 (dk_at dksX12_colorsBy_1 12 rfl rfl)
theorem dX12_colorsBy_35 : decode cX12_colorsBy 35 = .ok (.getfield 15, 3) := dk_180 0 15 (dk_at dksX12_colorsBy_1 13 rfl rfl)
theorem dX12_colorsBy_38 : decode cX12_colorsBy 38 = .ok (.ireturn, 1) := dk_172 (dk_at dksX12_colorsBy_1 16 rfl rfl)
def dkwX12_ranksBy_1 : List UInt8 := [42, 180, 0, 19, 4, 28, 4, 100, 120, 2, 130, 126, 167, 0, 7, 42, 180, 0, 19, 172]
abbrev dktX12_ranksBy_1 : List UInt8 := dkwX12_ranksBy_1 ++ []
def dkwX12_ranksBy_0 : List UInt8 := [27, 4, 160, 0, 37, 42, 180, 0, 9, 182, 0, 35, 28, 160, 0, 11, 4, 28, 4, 100, 120, 167, 0, 22]
abbrev dktX12_ranksBy_0 : List UInt8 := dkwX12_ranksBy_0 ++ dktX12_ranksBy_1
theorem dksX12_ranksBy_0 : cX12_ranksBy.data.toList.drop 0 = dktX12_ranksBy_0 := by decide +kernel
theorem dksX12_ranksBy_1 : cX12_ranksBy.data.toList.drop 24 = dktX12_ranksBy_1 := dk_seg dksX12_ranksBy_0 24 rfl rfl
theorem dX12_ranksBy_0 : decode cX12_ranksBy 0 = .ok (.iload_n 1, 1) := dk_27 (dk_at dksX12_ranksBy_0 0 rfl rfl)
theorem dX12_ranksBy_1 : decode cX12_ranksBy 1 = .ok (.iconst 1, 1) := dk_4 (dk_at dksX12_ranksBy_0 1 rfl rfl)
theorem dX12_ranksBy_2 : decode cX12_ranksBy 2 = .ok (.if_icmp .ne 37, 3) := dk_160 0 37 (dk_at dksX12_ranksBy_0 2 rfl rfl)
theorem dX12_ranksBy_5 : decode cX12_ranksBy 5 = .ok (.aload_n 0, 1) := dk_42 (dk_at dksX12_ranksBy_0 5 rfl rfl)
theorem dX12_ranksBy_6 : decode cX12_ranksBy 6 = .ok (.getfield 9, 3) := dk_180 0 9 (dk_at dksX12_ranksBy_0 6 rfl rfl)
theorem dX12_ranksBy_9 : decode cX12_ranksBy 9 = .ok (.invokevirtual 35, 3) := dk_182 0 35 (dk_at dksX12_ranksBy_0 9 rfl rfl)
theorem dX12_ranksBy_12 : decode cX12_ranksBy 12 = .ok (.iload_n 2, 1) := dk_28 (dk_at dksX12_ranksBy_0 12 rfl rfl)
theorem dX12_ranksBy_13 : decode cX12_ranksBy 13 = .ok (.if_icmp .ne 11, 3) := dk_160 0 11 (dk_at dksX12_ranksBy_0 13 rfl rfl)
theorem dX12_ranksBy_16 : decode cX12_ranksBy 16 = .ok (.iconst 1, 1) := dk_4 (dk_at dksX12_ranksBy_0 16 rfl rfl)
theorem dX12_ranksBy_17 : decode cX12_ranksBy 17 = .ok (.iload_n 2, 1) := dk_28 (dk_at dksX12_ranksBy_0 17 rfl rfl)
theorem dX12_ranksBy_18 : decode cX12_ranksBy 18 = .ok (.iconst 1, 1) := dk_4 (dk_at dksX12_ranksBy_0 18 rfl rfl)
theorem dX12_ranksBy_19 : decode cX12_ranksBy 19 = .ok (.isub, 1) := dk_100 (dk_at dksX12_ranksBy_0 19 rfl rfl)
theorem dX12_ranksBy_20 : decode cX12_ranksBy 20 = .ok (.ishl, 1) := dk_120 (dk_at dksX12_ranksBy_0 20 rfl rfl)
theorem dX12_ranksBy_21 : decode cX12_ranksBy 21 = .ok (.goto 22, 3) := dk_167 0 22 (dk_at dksX12_ranksBy_0 21 rfl rfl)
theorem dX12_ranksBy_24 : decode cX12_ranksBy 24 = .ok (.aload_n 0, 1) := dk_42 (dk_at dksX12_ranksBy_1 0 rfl rfl)
theorem dX12_ranksBy_25 : decode cX12_ranksBy 25 = .ok (.getfield 19, 3) := dk_180 0 19 (dk_at dksX12_ranksBy_1 1 rfl rfl)
theorem dX12_ranksBy_28 : decode cX12_ranksBy 28 = .ok (.iconst 1, 1) := dk_4 (dk_at dksX12_ranksBy_1 4 rfl rfl)
theorem dX12_ranksBy_29 : decode cX12_ranksBy 29 = .ok (.iload_n 2, 1) := dk_28 (dk_at dksX12_ranksBy_1 5 rfl rfl)
theorem dX12_ranksBy_30 : decode cX12_ranksBy 30 = .ok (.iconst 1, 1) := dk_4 (dk_at dksX12_ranksBy_1 6 rfl rfl)
theorem dX12_ranksBy_31 : decode cX12_ranksBy 31 = .ok (.isub, 1) := dk_100 (dk_at dksX12_ranksBy_1 7 rfl rfl)
theorem dX12_ranksBy_32 : decode cX12_ranksBy 32 = .ok (.ishl, 1) := dk_120 (dk_at dksX12_ranksBy_1 8 rfl rfl)
theorem dX12_ranksBy_33 : decode cX12_ranksBy 33 = .ok (.iconst (-1), 1) := dk_2 (dk_at dksX12_ranksBy_1 9 rfl rfl)
theorem dX12_ranksBy_34 : decode cX12_ranksBy 34 = .ok (.ixor, 1) := dk_130 (dk_at dksX12_ranksBy_1 10 rfl rfl)
theorem dX12_ranksBy_35 : decode cX12_ranksBy 35 = .ok (.iand, 1) := dk_126 (dk_at dksX12_ranksBy_1 11 rfl rfl)
theorem dX12_ranksBy_36 : decode cX12_ranksBy 36 = .ok (.goto 7, 3) := dk_167 0 7 (dk_at dksX12_ranksBy_1 12 rfl rfl)
theorem dX12_ranksBy_39 : decode cX12_ranksBy 39 = .ok (.aload_n 0, 1) := dk_42 (dk_at dksX12_ranksBy_1 15 rfl rfl)
theorem dX12_ranksBy_40 : decode cX12_ranksBy 40 = .ok (.getfield 19, 3) := dk_180 0 19 (dk_at dksX12_ranksBy_1 16 rfl rfl)
theorem dX12_ranksBy_43 : decode cX12_ranksBy 43 = .ok (.ireturn, 1) := dk_172 (dk_at dksX12_ranksBy_1 19 rfl rfl)
def dkwX12_isTold_1 : List UInt8 := [180, 0, 25, 42, 27, 28, 182, 0, 45, 128, 181, 0, 25, 177]
abbrev dktX12_isTold_1 : List UInt8 := dkwX12_isTold_1 ++ []
def dkwX12_isTold_0 : List UInt8 := [42, 27, 28, 182, 0, 38, 62, 42, 42, 27, 28, 182, 0, 42, 181, 0, 15, 42, 29, 181, 0, 19, 42, 89]
abbrev dktX12_isTold_0 : List UInt8 := dkwX12_isTold_0 ++ dktX12_isTold_1
theorem dksX12_isTold_0 : cX12_isTold.data.toList.drop 0 = dktX12_isTold_0 := by decide +kernel
theorem dksX12_isTold_1 : cX12_isTold.data.toList.drop 24 = dktX12_isTold_1 := dk_seg dksX12_isTold_0 24 rfl rfl
theorem dX12_isTold_0 : decode cX12_isTold 0 = .ok (.aload_n 0, 1) := dk_42 (dk_at dksX12_isTold_0 0 rfl rfl)
theorem dX12_isTold_1 : decode cX12_isTold 1 = .ok (.iload_n 1, 1) := dk_27 (dk_at dksX12_isTold_0 1 rfl rfl)
theorem dX12_isTold_2 : decode cX12_isTold 2 = .ok (.iload_n 2, 1) := dk_28 (dk_at dksX12_isTold_0 2 rfl rfl)
theorem dX12_isTold_3 : decode cX12_isTold 3 = .ok (.invokevirtual 38, 3) := dk_182 0 38 (dk_at dksX12_isTold_0 3 rfl rfl)
theorem dX12_isTold_6 : decode cX12_isTold 6 = .ok (.istore_n 3, 1) := dk_62 (dk_at dksX12_isTold_0 6 rfl rfl)
theorem dX12_isTold_7 : decode cX12_isTold 7 = .ok (.aload_n 0, 1) := dk_42 (dk_at dksX12_isTold_0 7 rfl rfl)
theorem dX12_isTold_8 : decode cX12_isTold 8 = .ok (.aload_n 0, 1) := dk_42 (dk_at dksX12_isTold_0 8 rfl rfl)
theorem dX12_isTold_9 : decode cX12_isTold 9 = .ok (.iload_n 1, 1) := dk_27 (dk_at dksX12_isTold_0 9 rfl rfl)
theorem dX12_isTold_10 : decode cX12_isTold 10 = .ok (.iload_n 2, 1) := dk_28 (dk_at dksX12_isTold_0 10 rfl rfl)
theorem dX12_isTold_11 : decode cX12_isTold 11 = .ok (.invokevirtual 42, 3) := dk_182 0 42 (dk_at dksX12_isTold_0 11 rfl rfl)
theorem dX12_isTold_14 : decode cX12_isTold 14 = .ok (.putfield 15, 3) := dk_181 0 15 (dk_at dksX12_isTold_0 14 rfl rfl)
theorem dX12_isTold_17 : decode cX12_isTold 17 = .ok (.aload_n 0, 1) := dk_42 (dk_at dksX12_isTold_0 17 rfl rfl)
theorem dX12_isTold_18 : decode cX12_isTold 18 = .ok (.iload_n 3, 1) := dk_29 (dk_at dksX12_isTold_0 18 rfl rfl)
theorem dX12_isTold_19 : decode cX12_isTold 19 = .ok (.putfield 19, 3) := dk_181 0 19 (dk_at dksX12_isTold_0 19 rfl rfl)
theorem dX12_isTold_22 : decode cX12_isTold 22 = .ok (.aload_n 0, 1) := dk_42 (dk_at dksX12_isTold_0 22 rfl rfl)
theorem dX12_isTold_23 : decode cX12_isTold 23 = .ok (.dup, 1) := dk_89 (dk_at dksX12_isTold_0 23 rfl rfl)
theorem dX12_isTold_24 : decode cX12_isTold 24 = .ok (.getfield 25, 3) := dk_180 0 25 (dk_at dksX12_isTold_1 0 rfl rfl)
theorem dX12_isTold_27 : decode cX12_isTold 27 = .ok (.aload_n 0, 1) := dk_42 (dk_at dksX12_isTold_1 3 rfl rfl)
theorem dX12_isTold_28 : decode cX12_isTold 28 = .ok (.iload_n 1, 1) := dk_27 (dk_at dksX12_isTold_1 4 rfl rfl)
theorem dX12_isTold_29 : decode cX12_isTold 29 = .ok (.iload_n 2, 1) := dk_28 (dk_at dksX12_isTold_1 5 rfl rfl)
theorem dX12_isTold_30 : decode cX12_isTold 30 = .ok (.invokevirtual 45, 3) := dk_182 0 45 (dk_at dksX12_isTold_1 6 rfl rfl)
theorem dX12_isTold_33 : decode cX12_isTold 33 = .ok (.ior, 1) := dk_128 (dk_at dksX12_isTold_1 9 rfl rfl)
theorem dX12_isTold_34 : decode cX12_isTold 34 = .ok (.putfield 25, 3) := dk_181 0 25 (dk_at dksX12_isTold_1 10 rfl rfl)
theorem dX12_isTold_37 : decode cX12_isTold 37 = .ok (.return_, 1) := dk_177 (dk_at dksX12_isTold_1 13 rfl rfl)
def dkwX12_written_5 : List UInt8 := [182, 0, 74, 176]
abbrev dktX12_written_5 : List UInt8 := dkwX12_written_5 ++ []
def dkwX12_written_4 : List UInt8 := [180, 0, 19, 184, 0, 68, 4, 96, 182, 0, 79, 182, 0, 74, 167, 0, 5, 18, 77, 182, 0, 64]
abbrev dktX12_written_4 : List UInt8 := dkwX12_written_4 ++ dktX12_written_5
def dkwX12_written_3 : List UInt8 := [180, 0, 19, 184, 0, 53, 4, 160, 0, 33, 187, 0, 59, 89, 183, 0, 61, 18, 62, 182, 0, 64, 42]
abbrev dktX12_written_3 : List UInt8 := dkwX12_written_3 ++ dktX12_written_4
def dkwX12_written_2 : List UInt8 := [182, 0, 71, 182, 0, 74, 167, 0, 5, 18, 77, 77, 187, 0, 59, 89, 183, 0, 61, 44, 182, 0, 64, 42]
abbrev dktX12_written_2 : List UInt8 := dkwX12_written_2 ++ dktX12_written_3
def dkwX12_written_1 : List UInt8 := [187, 0, 59, 89, 183, 0, 61, 18, 62, 182, 0, 64, 16, 97, 42, 180, 0, 15, 184, 0, 68, 96, 146]
abbrev dktX12_written_1 : List UInt8 := dkwX12_written_1 ++ dktX12_written_2
def dkwX12_written_0 : List UInt8 := [27, 153, 0, 11, 42, 180, 0, 9, 182, 0, 49, 176, 42, 180, 0, 15, 184, 0, 53, 4, 160, 0, 35]
abbrev dktX12_written_0 : List UInt8 := dkwX12_written_0 ++ dktX12_written_1
theorem dksX12_written_0 : cX12_written.data.toList.drop 0 = dktX12_written_0 := by decide +kernel
theorem dksX12_written_1 : cX12_written.data.toList.drop 23 = dktX12_written_1 := dk_seg dksX12_written_0 23 rfl rfl
theorem dksX12_written_2 : cX12_written.data.toList.drop 46 = dktX12_written_2 := dk_seg dksX12_written_1 23 rfl rfl
theorem dksX12_written_3 : cX12_written.data.toList.drop 70 = dktX12_written_3 := dk_seg dksX12_written_2 24 rfl rfl
theorem dksX12_written_4 : cX12_written.data.toList.drop 93 = dktX12_written_4 := dk_seg dksX12_written_3 23 rfl rfl
theorem dksX12_written_5 : cX12_written.data.toList.drop 115 = dktX12_written_5 := dk_seg dksX12_written_4 22 rfl rfl
theorem dX12_written_0 : decode cX12_written 0 = .ok (.iload_n 1, 1) := dk_27 (dk_at dksX12_written_0 0 rfl rfl)
theorem dX12_written_1 : decode cX12_written 1 = .ok (.ifCond .eq 11, 3) := dk_153 0 11 (dk_at dksX12_written_0 1 rfl rfl)
theorem dX12_written_4 : decode cX12_written 4 = .ok (.aload_n 0, 1) := dk_42 (dk_at dksX12_written_0 4 rfl rfl)
theorem dX12_written_5 : decode cX12_written 5 = .ok (.getfield 9, 3) := dk_180 0 9 (dk_at dksX12_written_0 5 rfl rfl)
theorem dX12_written_8 : decode cX12_written 8 = .ok (.invokevirtual 49, 3) := dk_182 0 49 (dk_at dksX12_written_0 8 rfl rfl)
theorem dX12_written_11 : decode cX12_written 11 = .ok (.areturn, 1) := dk_176 (dk_at dksX12_written_0 11 rfl rfl)
theorem dX12_written_12 : decode cX12_written 12 = .ok (.aload_n 0, 1) := dk_42 (dk_at dksX12_written_0 12 rfl rfl)
theorem dX12_written_13 : decode cX12_written 13 = .ok (.getfield 15, 3) := dk_180 0 15 (dk_at dksX12_written_0 13 rfl rfl)
theorem dX12_written_16 : decode cX12_written 16 = .ok (.invokestatic 53, 3) := dk_184 0 53 (dk_at dksX12_written_0 16 rfl rfl)
theorem dX12_written_19 : decode cX12_written 19 = .ok (.iconst 1, 1) := dk_4 (dk_at dksX12_written_0 19 rfl rfl)
theorem dX12_written_20 : decode cX12_written 20 = .ok (.if_icmp .ne 35, 3) := dk_160 0 35 (dk_at dksX12_written_0 20 rfl rfl)
theorem dX12_written_23 : decode cX12_written 23 = .ok (.new 59, 3) := dk_187 0 59 (dk_at dksX12_written_1 0 rfl rfl)
theorem dX12_written_26 : decode cX12_written 26 = .ok (.dup, 1) := dk_89 (dk_at dksX12_written_1 3 rfl rfl)
theorem dX12_written_27 : decode cX12_written 27 = .ok (.invokespecial 61, 3) := dk_183 0 61 (dk_at dksX12_written_1 4 rfl rfl)
theorem dX12_written_30 : decode cX12_written 30 = .ok (.ldc 62, 2) := dk_18 62 (dk_at dksX12_written_1 7 rfl rfl)
theorem dX12_written_32 : decode cX12_written 32 = .ok (.invokevirtual 64, 3) := dk_182 0 64 (dk_at dksX12_written_1 9 rfl rfl)
theorem dX12_written_35 : decode cX12_written 35 = .ok (.bipush 97, 2) := dk_16 97 (dk_at dksX12_written_1 12 rfl rfl)
theorem dX12_written_37 : decode cX12_written 37 = .ok (.aload_n 0, 1) := dk_42 (dk_at dksX12_written_1 14 rfl rfl)
theorem dX12_written_38 : decode cX12_written 38 = .ok (.getfield 15, 3) := dk_180 0 15 (dk_at dksX12_written_1 15 rfl rfl)
theorem dX12_written_41 : decode cX12_written 41 = .ok (.invokestatic 68, 3) := dk_184 0 68 (dk_at dksX12_written_1 18 rfl rfl)
theorem dX12_written_44 : decode cX12_written 44 = .ok (.iadd, 1) := dk_96 (dk_at dksX12_written_1 21 rfl rfl)
theorem dX12_written_45 : decode cX12_written 45 = .ok (.i2c, 1) := dk_146 (dk_at dksX12_written_1 22 rfl rfl)
theorem dX12_written_46 : decode cX12_written 46 = .ok (.invokevirtual 71, 3) := dk_182 0 71 (dk_at dksX12_written_2 0 rfl rfl)
theorem dX12_written_49 : decode cX12_written 49 = .ok (.invokevirtual 74, 3) := dk_182 0 74 (dk_at dksX12_written_2 3 rfl rfl)
theorem dX12_written_52 : decode cX12_written 52 = .ok (.goto 5, 3) := dk_167 0 5 (dk_at dksX12_written_2 6 rfl rfl)
theorem dX12_written_55 : decode cX12_written 55 = .ok (.ldc 77, 2) := dk_18 77 (dk_at dksX12_written_2 9 rfl rfl)
theorem dX12_written_57 : decode cX12_written 57 = .ok (.astore_n 2, 1) := dk_77 (dk_at dksX12_written_2 11 rfl rfl)
theorem dX12_written_58 : decode cX12_written 58 = .ok (.new 59, 3) := dk_187 0 59 (dk_at dksX12_written_2 12 rfl rfl)
theorem dX12_written_61 : decode cX12_written 61 = .ok (.dup, 1) := dk_89 (dk_at dksX12_written_2 15 rfl rfl)
theorem dX12_written_62 : decode cX12_written 62 = .ok (.invokespecial 61, 3) := dk_183 0 61 (dk_at dksX12_written_2 16 rfl rfl)
theorem dX12_written_65 : decode cX12_written 65 = .ok (.aload_n 2, 1) := dk_44 (dk_at dksX12_written_2 19 rfl rfl)
theorem dX12_written_66 : decode cX12_written 66 = .ok (.invokevirtual 64, 3) := dk_182 0 64 (dk_at dksX12_written_2 20 rfl rfl)
theorem dX12_written_69 : decode cX12_written 69 = .ok (.aload_n 0, 1) := dk_42 (dk_at dksX12_written_2 23 rfl rfl)
theorem dX12_written_70 : decode cX12_written 70 = .ok (.getfield 19, 3) := dk_180 0 19 (dk_at dksX12_written_3 0 rfl rfl)
theorem dX12_written_73 : decode cX12_written 73 = .ok (.invokestatic 53, 3) := dk_184 0 53 (dk_at dksX12_written_3 3 rfl rfl)
theorem dX12_written_76 : decode cX12_written 76 = .ok (.iconst 1, 1) := dk_4 (dk_at dksX12_written_3 6 rfl rfl)
theorem dX12_written_77 : decode cX12_written 77 = .ok (.if_icmp .ne 33, 3) := dk_160 0 33 (dk_at dksX12_written_3 7 rfl rfl)
theorem dX12_written_80 : decode cX12_written 80 = .ok (.new 59, 3) := dk_187 0 59 (dk_at dksX12_written_3 10 rfl rfl)
theorem dX12_written_83 : decode cX12_written 83 = .ok (.dup, 1) := dk_89 (dk_at dksX12_written_3 13 rfl rfl)
theorem dX12_written_84 : decode cX12_written 84 = .ok (.invokespecial 61, 3) := dk_183 0 61 (dk_at dksX12_written_3 14 rfl rfl)
theorem dX12_written_87 : decode cX12_written 87 = .ok (.ldc 62, 2) := dk_18 62 (dk_at dksX12_written_3 17 rfl rfl)
theorem dX12_written_89 : decode cX12_written 89 = .ok (.invokevirtual 64, 3) := dk_182 0 64 (dk_at dksX12_written_3 19 rfl rfl)
theorem dX12_written_92 : decode cX12_written 92 = .ok (.aload_n 0, 1) := dk_42 (dk_at dksX12_written_3 22 rfl rfl)
theorem dX12_written_93 : decode cX12_written 93 = .ok (.getfield 19, 3) := dk_180 0 19 (dk_at dksX12_written_4 0 rfl rfl)
theorem dX12_written_96 : decode cX12_written 96 = .ok (.invokestatic 68, 3) := dk_184 0 68 (dk_at dksX12_written_4 3 rfl rfl)
theorem dX12_written_99 : decode cX12_written 99 = .ok (.iconst 1, 1) := dk_4 (dk_at dksX12_written_4 6 rfl rfl)
theorem dX12_written_100 : decode cX12_written 100 = .ok (.iadd, 1) := dk_96 (dk_at dksX12_written_4 7 rfl rfl)
theorem dX12_written_101 : decode cX12_written 101 = .ok (.invokevirtual 79, 3) := dk_182 0 79 (dk_at dksX12_written_4 8 rfl rfl)
theorem dX12_written_104 : decode cX12_written 104 = .ok (.invokevirtual 74, 3) := dk_182 0 74 (dk_at dksX12_written_4 11 rfl rfl)
theorem dX12_written_107 : decode cX12_written 107 = .ok (.goto 5, 3) := dk_167 0 5 (dk_at dksX12_written_4 14 rfl rfl)
theorem dX12_written_110 : decode cX12_written 110 = .ok (.ldc 77, 2) := dk_18 77 (dk_at dksX12_written_4 17 rfl rfl)
theorem dX12_written_112 : decode cX12_written 112 = .ok (.invokevirtual 64, 3) := dk_182 0 64 (dk_at dksX12_written_4 19 rfl rfl)
theorem dX12_written_115 : decode cX12_written 115 = .ok (.invokevirtual 74, 3) := dk_182 0 74 (dk_at dksX12_written_5 0 rfl rfl)
theorem dX12_written_118 : decode cX12_written 118 = .ok (.areturn, 1) := dk_176 (dk_at dksX12_written_5 3 rfl rfl)
def dkwX13_init_0 : List UInt8 := [42, 43, 181, 0, 3, 42, 28, 181, 0, 9, 42, 29, 181, 0, 13, 42, 43, 183, 0, 16, 177]
abbrev dktX13_init_0 : List UInt8 := dkwX13_init_0 ++ []
theorem dksX13_init_0 : cX13_init.data.toList.drop 0 = dktX13_init_0 := by decide +kernel
theorem dX13_init_0 : decode cX13_init 0 = .ok (.aload_n 0, 1) := dk_42 (dk_at dksX13_init_0 0 rfl rfl)
theorem dX13_init_1 : decode cX13_init 1 = .ok (.aload_n 1, 1) := dk_43 (dk_at dksX13_init_0 1 rfl rfl)
theorem dX13_init_2 : decode cX13_init 2 = .ok (.putfield 3, 3) := dk_181 0 3 (dk_at dksX13_init_0 2 rfl rfl)
theorem dX13_init_5 : decode cX13_init 5 = .ok (.aload_n 0, 1) := dk_42 (dk_at dksX13_init_0 5 rfl rfl)
theorem dX13_init_6 : decode cX13_init 6 = .ok (.iload_n 2, 1) := dk_28 (dk_at dksX13_init_0 6 rfl rfl)
theorem dX13_init_7 : decode cX13_init 7 = .ok (.putfield 9, 3) := dk_181 0 9 (dk_at dksX13_init_0 7 rfl rfl)
theorem dX13_init_10 : decode cX13_init 10 = .ok (.aload_n 0, 1) := dk_42 (dk_at dksX13_init_0 10 rfl rfl)
theorem dX13_init_11 : decode cX13_init 11 = .ok (.iload_n 3, 1) := dk_29 (dk_at dksX13_init_0 11 rfl rfl)
theorem dX13_init_12 : decode cX13_init 12 = .ok (.putfield 13, 3) := dk_181 0 13 (dk_at dksX13_init_0 12 rfl rfl)
theorem dX13_init_15 : decode cX13_init 15 = .ok (.aload_n 0, 1) := dk_42 (dk_at dksX13_init_0 15 rfl rfl)
theorem dX13_init_16 : decode cX13_init 16 = .ok (.aload_n 1, 1) := dk_43 (dk_at dksX13_init_0 16 rfl rfl)
theorem dX13_init_17 : decode cX13_init 17 = .ok (.invokespecial 16, 3) := dk_183 0 16 (dk_at dksX13_init_0 17 rfl rfl)
theorem dX13_init_20 : decode cX13_init 20 = .ok (.return_, 1) := dk_177 (dk_at dksX13_init_0 20 rfl rfl)
def dkwX13_run_1 : List UInt8 := [42, 180, 0, 3, 180, 0, 22, 42, 180, 0, 13, 182, 0, 32, 177]
abbrev dktX13_run_1 : List UInt8 := dkwX13_run_1 ++ []
def dkwX13_run_0 : List UInt8 := [42, 180, 0, 9, 154, 0, 20, 42, 180, 0, 3, 180, 0, 22, 42, 180, 0, 13, 182, 0, 26, 167, 0, 17]
abbrev dktX13_run_0 : List UInt8 := dkwX13_run_0 ++ dktX13_run_1
theorem dksX13_run_0 : cX13_run.data.toList.drop 0 = dktX13_run_0 := by decide +kernel
theorem dksX13_run_1 : cX13_run.data.toList.drop 24 = dktX13_run_1 := dk_seg dksX13_run_0 24 rfl rfl
theorem dX13_run_0 : decode cX13_run 0 = .ok (.aload_n 0, 1) := dk_42 (dk_at dksX13_run_0 0 rfl rfl)
theorem dX13_run_1 : decode cX13_run 1 = .ok (.getfield 9, 3) := dk_180 0 9 (dk_at dksX13_run_0 1 rfl rfl)
theorem dX13_run_4 : decode cX13_run 4 = .ok (.ifCond .ne 20, 3) := dk_154 0 20 (dk_at dksX13_run_0 4 rfl rfl)
theorem dX13_run_7 : decode cX13_run 7 = .ok (.aload_n 0, 1) := dk_42 (dk_at dksX13_run_0 7 rfl rfl)
theorem dX13_run_8 : decode cX13_run 8 = .ok (.getfield 3, 3) := dk_180 0 3 (dk_at dksX13_run_0 8 rfl rfl)
theorem dX13_run_11 : decode cX13_run 11 = .ok (.getfield 22, 3) := dk_180 0 22 (dk_at dksX13_run_0 11 rfl rfl)
theorem dX13_run_14 : decode cX13_run 14 = .ok (.aload_n 0, 1) := dk_42 (dk_at dksX13_run_0 14 rfl rfl)
theorem dX13_run_15 : decode cX13_run 15 = .ok (.getfield 13, 3) := dk_180 0 13 (dk_at dksX13_run_0 15 rfl rfl)
theorem dX13_run_18 : decode cX13_run 18 = .ok (.invokevirtual 26, 3) := dk_182 0 26 (dk_at dksX13_run_0 18 rfl rfl)
theorem dX13_run_21 : decode cX13_run 21 = .ok (.goto 17, 3) := dk_167 0 17 (dk_at dksX13_run_0 21 rfl rfl)
theorem dX13_run_24 : decode cX13_run 24 = .ok (.aload_n 0, 1) := dk_42 (dk_at dksX13_run_1 0 rfl rfl)
theorem dX13_run_25 : decode cX13_run 25 = .ok (.getfield 3, 3) := dk_180 0 3 (dk_at dksX13_run_1 1 rfl rfl)
theorem dX13_run_28 : decode cX13_run 28 = .ok (.getfield 22, 3) := dk_180 0 22 (dk_at dksX13_run_1 4 rfl rfl)
theorem dX13_run_31 : decode cX13_run 31 = .ok (.aload_n 0, 1) := dk_42 (dk_at dksX13_run_1 7 rfl rfl)
theorem dX13_run_32 : decode cX13_run 32 = .ok (.getfield 13, 3) := dk_180 0 13 (dk_at dksX13_run_1 8 rfl rfl)
theorem dX13_run_35 : decode cX13_run 35 = .ok (.invokevirtual 32, 3) := dk_182 0 32 (dk_at dksX13_run_1 11 rfl rfl)
theorem dX13_run_38 : decode cX13_run 38 = .ok (.return_, 1) := dk_177 (dk_at dksX13_run_1 14 rfl rfl)
theorem dX13_kind_0 : decode cX13_kind 0 = .ok (.aload_n 0, 1) := by decide +kernel
theorem dX13_kind_1 : decode cX13_kind 1 = .ok (.getfield 9, 3) := by decide +kernel
theorem dX13_kind_4 : decode cX13_kind 4 = .ok (.ireturn, 1) := by decide +kernel
def dkwX13_part_0 : List UInt8 := [27, 4, 160, 0, 10, 42, 180, 0, 13, 167, 0, 4, 2, 172]
abbrev dktX13_part_0 : List UInt8 := dkwX13_part_0 ++ []
theorem dksX13_part_0 : cX13_part.data.toList.drop 0 = dktX13_part_0 := by decide +kernel
theorem dX13_part_0 : decode cX13_part 0 = .ok (.iload_n 1, 1) := dk_27 (dk_at dksX13_part_0 0 rfl rfl)
theorem dX13_part_1 : decode cX13_part 1 = .ok (.iconst 1, 1) := dk_4 (dk_at dksX13_part_0 1 rfl rfl)
theorem dX13_part_2 : decode cX13_part 2 = .ok (.if_icmp .ne 10, 3) := dk_160 0 10 (dk_at dksX13_part_0 2 rfl rfl)
theorem dX13_part_5 : decode cX13_part 5 = .ok (.aload_n 0, 1) := dk_42 (dk_at dksX13_part_0 5 rfl rfl)
theorem dX13_part_6 : decode cX13_part 6 = .ok (.getfield 13, 3) := dk_180 0 13 (dk_at dksX13_part_0 6 rfl rfl)
theorem dX13_part_9 : decode cX13_part 9 = .ok (.goto 4, 3) := dk_167 0 4 (dk_at dksX13_part_0 9 rfl rfl)
theorem dX13_part_12 : decode cX13_part 12 = .ok (.iconst (-1), 1) := dk_2 (dk_at dksX13_part_0 12 rfl rfl)
theorem dX13_part_13 : decode cX13_part 13 = .ok (.ireturn, 1) := dk_172 (dk_at dksX13_part_0 13 rfl rfl)
def dkwX14_hasNext_1 : List UInt8 := [3, 172]
abbrev dktX14_hasNext_1 : List UInt8 := dkwX14_hasNext_1 ++ []
def dkwX14_hasNext_0 : List UInt8 := [42, 180, 0, 15, 42, 180, 0, 3, 180, 0, 28, 180, 0, 37, 180, 0, 41, 162, 0, 7, 4, 167, 0, 4]
abbrev dktX14_hasNext_0 : List UInt8 := dkwX14_hasNext_0 ++ dktX14_hasNext_1
theorem dksX14_hasNext_0 : cX14_hasNext.data.toList.drop 0 = dktX14_hasNext_0 := by decide +kernel
theorem dksX14_hasNext_1 : cX14_hasNext.data.toList.drop 24 = dktX14_hasNext_1 := dk_seg dksX14_hasNext_0 24 rfl rfl
theorem dX14_hasNext_0 : decode cX14_hasNext 0 = .ok (.aload_n 0, 1) := dk_42 (dk_at dksX14_hasNext_0 0 rfl rfl)
theorem dX14_hasNext_1 : decode cX14_hasNext 1 = .ok (.getfield 15, 3) := dk_180 0 15 (dk_at dksX14_hasNext_0 1 rfl rfl)
theorem dX14_hasNext_4 : decode cX14_hasNext 4 = .ok (.aload_n 0, 1) := dk_42 (dk_at dksX14_hasNext_0 4 rfl rfl)
theorem dX14_hasNext_5 : decode cX14_hasNext 5 = .ok (.getfield 3, 3) := dk_180 0 3 (dk_at dksX14_hasNext_0 5 rfl rfl)
theorem dX14_hasNext_8 : decode cX14_hasNext 8 = .ok (.getfield 28, 3) := dk_180 0 28 (dk_at dksX14_hasNext_0 8 rfl rfl)
theorem dX14_hasNext_11 : decode cX14_hasNext 11 = .ok (.getfield 37, 3) := dk_180 0 37 (dk_at dksX14_hasNext_0 11 rfl rfl)
theorem dX14_hasNext_14 : decode cX14_hasNext 14 = .ok (.getfield 41, 3) := dk_180 0 41 (dk_at dksX14_hasNext_0 14 rfl rfl)
theorem dX14_hasNext_17 : decode cX14_hasNext 17 = .ok (.if_icmp .ge 7, 3) := dk_162 0 7 (dk_at dksX14_hasNext_0 17 rfl rfl)
theorem dX14_hasNext_20 : decode cX14_hasNext 20 = .ok (.iconst 1, 1) := dk_4 (dk_at dksX14_hasNext_0 20 rfl rfl)
theorem dX14_hasNext_21 : decode cX14_hasNext 21 = .ok (.goto 4, 3) := dk_167 0 4 (dk_at dksX14_hasNext_0 21 rfl rfl)
theorem dX14_hasNext_24 : decode cX14_hasNext 24 = .ok (.iconst 0, 1) := dk_3 (dk_at dksX14_hasNext_1 0 rfl rfl)
theorem dX14_hasNext_25 : decode cX14_hasNext 25 = .ok (.ireturn, 1) := dk_172 (dk_at dksX14_hasNext_1 1 rfl rfl)
theorem dX14_next_0 : decode cX14_next 0 = .ok (.aload_n 0, 1) := by decide +kernel
theorem dX14_next_1 : decode cX14_next 1 = .ok (.invokevirtual 73, 3) := by decide +kernel
theorem dX14_next_4 : decode cX14_next 4 = .ok (.areturn, 1) := by decide +kernel
def dkwX14_next_2_1 : List UInt8 := [182, 0, 57, 42, 180, 0, 19, 42, 180, 0, 22, 183, 0, 70, 76, 42, 182, 0, 25, 43, 176]
abbrev dktX14_next_2_1 : List UInt8 := dkwX14_next_2_1 ++ []
def dkwX14_next_2_0 : List UInt8 := [42, 182, 0, 53, 154, 0, 11, 187, 0, 65, 89, 183, 0, 67, 191, 187, 0, 68, 89, 42, 180, 0, 3, 42]
abbrev dktX14_next_2_0 : List UInt8 := dkwX14_next_2_0 ++ dktX14_next_2_1
theorem dksX14_next_2_0 : cX14_next_2.data.toList.drop 0 = dktX14_next_2_0 := by decide +kernel
theorem dksX14_next_2_1 : cX14_next_2.data.toList.drop 24 = dktX14_next_2_1 := dk_seg dksX14_next_2_0 24 rfl rfl
theorem dX14_next_2_0 : decode cX14_next_2 0 = .ok (.aload_n 0, 1) := dk_42 (dk_at dksX14_next_2_0 0 rfl rfl)
theorem dX14_next_2_1 : decode cX14_next_2 1 = .ok (.invokevirtual 53, 3) := dk_182 0 53 (dk_at dksX14_next_2_0 1 rfl rfl)
theorem dX14_next_2_4 : decode cX14_next_2 4 = .ok (.ifCond .ne 11, 3) := dk_154 0 11 (dk_at dksX14_next_2_0 4 rfl rfl)
theorem dX14_next_2_7 : decode cX14_next_2 7 = .ok (.new 65, 3) := dk_187 0 65 (dk_at dksX14_next_2_0 7 rfl rfl)
theorem dX14_next_2_10 : decode cX14_next_2 10 = .ok (.dup, 1) := dk_89 (dk_at dksX14_next_2_0 10 rfl rfl)
theorem dX14_next_2_11 : decode cX14_next_2 11 = .ok (.invokespecial 67, 3) := dk_183 0 67 (dk_at dksX14_next_2_0 11 rfl rfl)
theorem dX14_next_2_14 : decode cX14_next_2 14 = .ok (.athrow, 1) := dk_191 (dk_at dksX14_next_2_0 14 rfl rfl)
theorem dX14_next_2_15 : decode cX14_next_2 15 = .ok (.new 68, 3) := dk_187 0 68 (dk_at dksX14_next_2_0 15 rfl rfl)
theorem dX14_next_2_18 : decode cX14_next_2 18 = .ok (.dup, 1) := dk_89 (dk_at dksX14_next_2_0 18 rfl rfl)
theorem dX14_next_2_19 : decode cX14_next_2 19 = .ok (.aload_n 0, 1) := dk_42 (dk_at dksX14_next_2_0 19 rfl rfl)
theorem dX14_next_2_20 : decode cX14_next_2 20 = .ok (.getfield 3, 3) := dk_180 0 3 (dk_at dksX14_next_2_0 20 rfl rfl)
theorem dX14_next_2_23 : decode cX14_next_2 23 = .ok (.aload_n 0, 1) := dk_42 (dk_at dksX14_next_2_0 23 rfl rfl)
theorem dX14_next_2_24 : decode cX14_next_2 24 = .ok (.invokevirtual 57, 3) := dk_182 0 57 (dk_at dksX14_next_2_1 0 rfl rfl)
theorem dX14_next_2_27 : decode cX14_next_2 27 = .ok (.aload_n 0, 1) := dk_42 (dk_at dksX14_next_2_1 3 rfl rfl)
theorem dX14_next_2_28 : decode cX14_next_2 28 = .ok (.getfield 19, 3) := dk_180 0 19 (dk_at dksX14_next_2_1 4 rfl rfl)
theorem dX14_next_2_31 : decode cX14_next_2 31 = .ok (.aload_n 0, 1) := dk_42 (dk_at dksX14_next_2_1 7 rfl rfl)
theorem dX14_next_2_32 : decode cX14_next_2 32 = .ok (.getfield 22, 3) := dk_180 0 22 (dk_at dksX14_next_2_1 8 rfl rfl)
theorem dX14_next_2_35 : decode cX14_next_2 35 = .ok (.invokespecial 70, 3) := dk_183 0 70 (dk_at dksX14_next_2_1 11 rfl rfl)
theorem dX14_next_2_38 : decode cX14_next_2 38 = .ok (.astore_n 1, 1) := dk_76 (dk_at dksX14_next_2_1 14 rfl rfl)
theorem dX14_next_2_39 : decode cX14_next_2 39 = .ok (.aload_n 0, 1) := dk_42 (dk_at dksX14_next_2_1 15 rfl rfl)
theorem dX14_next_2_40 : decode cX14_next_2 40 = .ok (.invokevirtual 25, 3) := dk_182 0 25 (dk_at dksX14_next_2_1 16 rfl rfl)
theorem dX14_next_2_43 : decode cX14_next_2 43 = .ok (.aload_n 1, 1) := dk_43 (dk_at dksX14_next_2_1 19 rfl rfl)
theorem dX14_next_2_44 : decode cX14_next_2 44 = .ok (.areturn, 1) := dk_176 (dk_at dksX14_next_2_1 20 rfl rfl)
def dkwX14_player_1 : List UInt8 := [180, 0, 37, 180, 0, 41, 112, 172]
abbrev dktX14_player_1 : List UInt8 := dkwX14_player_1 ++ []
def dkwX14_player_0 : List UInt8 := [42, 180, 0, 3, 180, 0, 28, 180, 0, 32, 42, 180, 0, 15, 96, 42, 180, 0, 3, 180, 0, 28]
abbrev dktX14_player_0 : List UInt8 := dkwX14_player_0 ++ dktX14_player_1
theorem dksX14_player_0 : cX14_player.data.toList.drop 0 = dktX14_player_0 := by decide +kernel
theorem dksX14_player_1 : cX14_player.data.toList.drop 22 = dktX14_player_1 := dk_seg dksX14_player_0 22 rfl rfl
theorem dX14_player_0 : decode cX14_player 0 = .ok (.aload_n 0, 1) := dk_42 (dk_at dksX14_player_0 0 rfl rfl)
theorem dX14_player_1 : decode cX14_player 1 = .ok (.getfield 3, 3) := dk_180 0 3 (dk_at dksX14_player_0 1 rfl rfl)
theorem dX14_player_4 : decode cX14_player 4 = .ok (.getfield 28, 3) := dk_180 0 28 (dk_at dksX14_player_0 4 rfl rfl)
theorem dX14_player_7 : decode cX14_player 7 = .ok (.getfield 32, 3) := dk_180 0 32 (dk_at dksX14_player_0 7 rfl rfl)
theorem dX14_player_10 : decode cX14_player 10 = .ok (.aload_n 0, 1) := dk_42 (dk_at dksX14_player_0 10 rfl rfl)
theorem dX14_player_11 : decode cX14_player 11 = .ok (.getfield 15, 3) := dk_180 0 15 (dk_at dksX14_player_0 11 rfl rfl)
theorem dX14_player_14 : decode cX14_player 14 = .ok (.iadd, 1) := dk_96 (dk_at dksX14_player_0 14 rfl rfl)
theorem dX14_player_15 : decode cX14_player 15 = .ok (.aload_n 0, 1) := dk_42 (dk_at dksX14_player_0 15 rfl rfl)
theorem dX14_player_16 : decode cX14_player 16 = .ok (.getfield 3, 3) := dk_180 0 3 (dk_at dksX14_player_0 16 rfl rfl)
theorem dX14_player_19 : decode cX14_player 19 = .ok (.getfield 28, 3) := dk_180 0 28 (dk_at dksX14_player_0 19 rfl rfl)
theorem dX14_player_22 : decode cX14_player 22 = .ok (.getfield 37, 3) := dk_180 0 37 (dk_at dksX14_player_1 0 rfl rfl)
theorem dX14_player_25 : decode cX14_player 25 = .ok (.getfield 41, 3) := dk_180 0 41 (dk_at dksX14_player_1 3 rfl rfl)
theorem dX14_player_28 : decode cX14_player 28 = .ok (.irem, 1) := dk_112 (dk_at dksX14_player_1 6 rfl rfl)
theorem dX14_player_29 : decode cX14_player 29 = .ok (.ireturn, 1) := dk_172 (dk_at dksX14_player_1 7 rfl rfl)
def dkwX14_steps_4 : List UInt8 := [42, 180, 0, 19, 42, 180, 0, 22, 182, 0, 61, 153, 255, 149, 177]
abbrev dktX14_steps_4 : List UInt8 := dkwX14_steps_4 ++ []
def dkwX14_steps_3 : List UInt8 := [182, 0, 50, 181, 0, 22, 42, 182, 0, 53, 153, 0, 28, 42, 180, 0, 3, 180, 0, 28, 42, 182, 0, 57]
abbrev dktX14_steps_3 : List UInt8 := dkwX14_steps_3 ++ dktX14_steps_4
def dkwX14_steps_2 : List UInt8 := [4, 42, 180, 0, 19, 100, 181, 0, 19, 42, 42, 180, 0, 3, 180, 0, 28, 180, 0, 37, 42, 180, 0, 19]
abbrev dktX14_steps_2 : List UInt8 := dkwX14_steps_2 ++ dktX14_steps_3
def dkwX14_steps_1 : List UInt8 := [42, 180, 0, 19, 182, 0, 46, 164, 0, 47, 42, 89, 180, 0, 15, 42, 180, 0, 19, 96, 181, 0, 15, 42]
abbrev dktX14_steps_1 : List UInt8 := dkwX14_steps_1 ++ dktX14_steps_2
def dkwX14_steps_0 : List UInt8 := [42, 89, 180, 0, 22, 4, 96, 181, 0, 22, 42, 180, 0, 22, 42, 180, 0, 3, 180, 0, 28, 180, 0, 37]
abbrev dktX14_steps_0 : List UInt8 := dkwX14_steps_0 ++ dktX14_steps_1
theorem dksX14_steps_0 : cX14_steps.data.toList.drop 0 = dktX14_steps_0 := by decide +kernel
theorem dksX14_steps_1 : cX14_steps.data.toList.drop 24 = dktX14_steps_1 := dk_seg dksX14_steps_0 24 rfl rfl
theorem dksX14_steps_2 : cX14_steps.data.toList.drop 48 = dktX14_steps_2 := dk_seg dksX14_steps_1 24 rfl rfl
theorem dksX14_steps_3 : cX14_steps.data.toList.drop 72 = dktX14_steps_3 := dk_seg dksX14_steps_2 24 rfl rfl
theorem dksX14_steps_4 : cX14_steps.data.toList.drop 96 = dktX14_steps_4 := dk_seg dksX14_steps_3 24 rfl rfl
theorem dX14_steps_0 : decode cX14_steps 0 = .ok (.aload_n 0, 1) := dk_42 (dk_at dksX14_steps_0 0 rfl rfl)
theorem dX14_steps_1 : decode cX14_steps 1 = .ok (.dup, 1) := dk_89 (dk_at dksX14_steps_0 1 rfl rfl)
theorem dX14_steps_2 : decode cX14_steps 2 = .ok (.getfield 22, 3) := dk_180 0 22 (dk_at dksX14_steps_0 2 rfl rfl)
theorem dX14_steps_5 : decode cX14_steps 5 = .ok (.iconst 1, 1) := dk_4 (dk_at dksX14_steps_0 5 rfl rfl)
theorem dX14_steps_6 : decode cX14_steps 6 = .ok (.iadd, 1) := dk_96 (dk_at dksX14_steps_0 6 rfl rfl)
theorem dX14_steps_7 : decode cX14_steps 7 = .ok (.putfield 22, 3) := dk_181 0 22 (dk_at dksX14_steps_0 7 rfl rfl)
theorem dX14_steps_10 : decode cX14_steps 10 = .ok (.aload_n 0, 1) := dk_42 (dk_at dksX14_steps_0 10 rfl rfl)
theorem dX14_steps_11 : decode cX14_steps 11 = .ok (.getfield 22, 3) := dk_180 0 22 (dk_at dksX14_steps_0 11 rfl rfl)
theorem dX14_steps_14 : decode cX14_steps 14 = .ok (.aload_n 0, 1) := dk_42 (dk_at dksX14_steps_0 14 rfl rfl)
theorem dX14_steps_15 : decode cX14_steps 15 = .ok (.getfield 3, 3) := dk_180 0 3 (dk_at dksX14_steps_0 15 rfl rfl)
theorem dX14_steps_18 : decode cX14_steps 18 = .ok (.getfield 28, 3) := dk_180 0 28 (dk_at dksX14_steps_0 18 rfl rfl)
theorem dX14_steps_21 : decode cX14_steps 21 = .ok (.getfield 37, 3) := dk_180 0 37 (dk_at dksX14_steps_0 21 rfl rfl)
theorem dX14_steps_24 : decode cX14_steps 24 = .ok (.aload_n 0, 1) := dk_42 (dk_at dksX14_steps_1 0 rfl rfl)
theorem dX14_steps_25 : decode cX14_steps 25 = .ok (.getfield 19, 3) := dk_180 0 19 (dk_at dksX14_steps_1 1 rfl rfl)
theorem dX14_steps_28 : decode cX14_steps 28 = .ok (.invokevirtual 46, 3) := dk_182 0 46 (dk_at dksX14_steps_1 4 rfl rfl)
theorem dX14_steps_31 : decode cX14_steps 31 = .ok (.if_icmp .le 47, 3) := dk_164 0 47 (dk_at dksX14_steps_1 7 rfl rfl)
theorem dX14_steps_34 : decode cX14_steps 34 = .ok (.aload_n 0, 1) := dk_42 (dk_at dksX14_steps_1 10 rfl rfl)
theorem dX14_steps_35 : decode cX14_steps 35 = .ok (.dup, 1) := dk_89 (dk_at dksX14_steps_1 11 rfl rfl)
theorem dX14_steps_36 : decode cX14_steps 36 = .ok (.getfield 15, 3) := dk_180 0 15 (dk_at dksX14_steps_1 12 rfl rfl)
theorem dX14_steps_39 : decode cX14_steps 39 = .ok (.aload_n 0, 1) := dk_42 (dk_at dksX14_steps_1 15 rfl rfl)
theorem dX14_steps_40 : decode cX14_steps 40 = .ok (.getfield 19, 3) := dk_180 0 19 (dk_at dksX14_steps_1 16 rfl rfl)
theorem dX14_steps_43 : decode cX14_steps 43 = .ok (.iadd, 1) := dk_96 (dk_at dksX14_steps_1 19 rfl rfl)
theorem dX14_steps_44 : decode cX14_steps 44 = .ok (.putfield 15, 3) := dk_181 0 15 (dk_at dksX14_steps_1 20 rfl rfl)
theorem dX14_steps_47 : decode cX14_steps 47 = .ok (.aload_n 0, 1) := dk_42 (dk_at dksX14_steps_1 23 rfl rfl)
theorem dX14_steps_48 : decode cX14_steps 48 = .ok (.iconst 1, 1) := dk_4 (dk_at dksX14_steps_2 0 rfl rfl)
theorem dX14_steps_49 : decode cX14_steps 49 = .ok (.aload_n 0, 1) := dk_42 (dk_at dksX14_steps_2 1 rfl rfl)
theorem dX14_steps_50 : decode cX14_steps 50 = .ok (.getfield 19, 3) := dk_180 0 19 (dk_at dksX14_steps_2 2 rfl rfl)
theorem dX14_steps_53 : decode cX14_steps 53 = .ok (.isub, 1) := dk_100 (dk_at dksX14_steps_2 5 rfl rfl)
theorem dX14_steps_54 : decode cX14_steps 54 = .ok (.putfield 19, 3) := dk_181 0 19 (dk_at dksX14_steps_2 6 rfl rfl)
theorem dX14_steps_57 : decode cX14_steps 57 = .ok (.aload_n 0, 1) := dk_42 (dk_at dksX14_steps_2 9 rfl rfl)
theorem dX14_steps_58 : decode cX14_steps 58 = .ok (.aload_n 0, 1) := dk_42 (dk_at dksX14_steps_2 10 rfl rfl)
theorem dX14_steps_59 : decode cX14_steps 59 = .ok (.getfield 3, 3) := dk_180 0 3 (dk_at dksX14_steps_2 11 rfl rfl)
theorem dX14_steps_62 : decode cX14_steps 62 = .ok (.getfield 28, 3) := dk_180 0 28 (dk_at dksX14_steps_2 14 rfl rfl)
theorem dX14_steps_65 : decode cX14_steps 65 = .ok (.getfield 37, 3) := dk_180 0 37 (dk_at dksX14_steps_2 17 rfl rfl)
theorem dX14_steps_68 : decode cX14_steps 68 = .ok (.aload_n 0, 1) := dk_42 (dk_at dksX14_steps_2 20 rfl rfl)
theorem dX14_steps_69 : decode cX14_steps 69 = .ok (.getfield 19, 3) := dk_180 0 19 (dk_at dksX14_steps_2 21 rfl rfl)
theorem dX14_steps_72 : decode cX14_steps 72 = .ok (.invokevirtual 50, 3) := dk_182 0 50 (dk_at dksX14_steps_3 0 rfl rfl)
theorem dX14_steps_75 : decode cX14_steps 75 = .ok (.putfield 22, 3) := dk_181 0 22 (dk_at dksX14_steps_3 3 rfl rfl)
theorem dX14_steps_78 : decode cX14_steps 78 = .ok (.aload_n 0, 1) := dk_42 (dk_at dksX14_steps_3 6 rfl rfl)
theorem dX14_steps_79 : decode cX14_steps 79 = .ok (.invokevirtual 53, 3) := dk_182 0 53 (dk_at dksX14_steps_3 7 rfl rfl)
theorem dX14_steps_82 : decode cX14_steps 82 = .ok (.ifCond .eq 28, 3) := dk_153 0 28 (dk_at dksX14_steps_3 10 rfl rfl)
theorem dX14_steps_85 : decode cX14_steps 85 = .ok (.aload_n 0, 1) := dk_42 (dk_at dksX14_steps_3 13 rfl rfl)
theorem dX14_steps_86 : decode cX14_steps 86 = .ok (.getfield 3, 3) := dk_180 0 3 (dk_at dksX14_steps_3 14 rfl rfl)
theorem dX14_steps_89 : decode cX14_steps 89 = .ok (.getfield 28, 3) := dk_180 0 28 (dk_at dksX14_steps_3 17 rfl rfl)
theorem dX14_steps_92 : decode cX14_steps 92 = .ok (.aload_n 0, 1) := dk_42 (dk_at dksX14_steps_3 20 rfl rfl)
theorem dX14_steps_93 : decode cX14_steps 93 = .ok (.invokevirtual 57, 3) := dk_182 0 57 (dk_at dksX14_steps_3 21 rfl rfl)
theorem dX14_steps_96 : decode cX14_steps 96 = .ok (.aload_n 0, 1) := dk_42 (dk_at dksX14_steps_4 0 rfl rfl)
theorem dX14_steps_97 : decode cX14_steps 97 = .ok (.getfield 19, 3) := dk_180 0 19 (dk_at dksX14_steps_4 1 rfl rfl)
theorem dX14_steps_100 : decode cX14_steps 100 = .ok (.aload_n 0, 1) := dk_42 (dk_at dksX14_steps_4 4 rfl rfl)
theorem dX14_steps_101 : decode cX14_steps 101 = .ok (.getfield 22, 3) := dk_180 0 22 (dk_at dksX14_steps_4 5 rfl rfl)
theorem dX14_steps_104 : decode cX14_steps 104 = .ok (.invokevirtual 61, 3) := dk_182 0 61 (dk_at dksX14_steps_4 8 rfl rfl)
theorem dX14_steps_107 : decode cX14_steps 107 = .ok (.ifCond .eq (-107), 3) := dk_153 255 149 (dk_at dksX14_steps_4 11 rfl rfl)
theorem dX14_steps_110 : decode cX14_steps 110 = .ok (.return_, 1) := dk_177 (dk_at dksX14_steps_4 14 rfl rfl)
def dkwX14_init_1 : List UInt8 := [42, 182, 0, 25, 177]
abbrev dktX14_init_1 : List UInt8 := dkwX14_init_1 ++ []
def dkwX14_init_0 : List UInt8 := [42, 43, 181, 0, 3, 42, 183, 0, 9, 42, 4, 181, 0, 15, 42, 3, 181, 0, 19, 42, 2, 181, 0, 22]
abbrev dktX14_init_0 : List UInt8 := dkwX14_init_0 ++ dktX14_init_1
theorem dksX14_init_0 : cX14_init.data.toList.drop 0 = dktX14_init_0 := by decide +kernel
theorem dksX14_init_1 : cX14_init.data.toList.drop 24 = dktX14_init_1 := dk_seg dksX14_init_0 24 rfl rfl
theorem dX14_init_0 : decode cX14_init 0 = .ok (.aload_n 0, 1) := dk_42 (dk_at dksX14_init_0 0 rfl rfl)
theorem dX14_init_1 : decode cX14_init 1 = .ok (.aload_n 1, 1) := dk_43 (dk_at dksX14_init_0 1 rfl rfl)
theorem dX14_init_2 : decode cX14_init 2 = .ok (.putfield 3, 3) := dk_181 0 3 (dk_at dksX14_init_0 2 rfl rfl)
theorem dX14_init_5 : decode cX14_init 5 = .ok (.aload_n 0, 1) := dk_42 (dk_at dksX14_init_0 5 rfl rfl)
theorem dX14_init_6 : decode cX14_init 6 = .ok (.invokespecial 9, 3) := dk_183 0 9 (dk_at dksX14_init_0 6 rfl rfl)
theorem dX14_init_9 : decode cX14_init 9 = .ok (.aload_n 0, 1) := dk_42 (dk_at dksX14_init_0 9 rfl rfl)
theorem dX14_init_10 : decode cX14_init 10 = .ok (.iconst 1, 1) := dk_4 (dk_at dksX14_init_0 10 rfl rfl)
theorem dX14_init_11 : decode cX14_init 11 = .ok (.putfield 15, 3) := dk_181 0 15 (dk_at dksX14_init_0 11 rfl rfl)
theorem dX14_init_14 : decode cX14_init 14 = .ok (.aload_n 0, 1) := dk_42 (dk_at dksX14_init_0 14 rfl rfl)
theorem dX14_init_15 : decode cX14_init 15 = .ok (.iconst 0, 1) := dk_3 (dk_at dksX14_init_0 15 rfl rfl)
theorem dX14_init_16 : decode cX14_init 16 = .ok (.putfield 19, 3) := dk_181 0 19 (dk_at dksX14_init_0 16 rfl rfl)
theorem dX14_init_19 : decode cX14_init 19 = .ok (.aload_n 0, 1) := dk_42 (dk_at dksX14_init_0 19 rfl rfl)
theorem dX14_init_20 : decode cX14_init 20 = .ok (.iconst (-1), 1) := dk_2 (dk_at dksX14_init_0 20 rfl rfl)
theorem dX14_init_21 : decode cX14_init 21 = .ok (.putfield 22, 3) := dk_181 0 22 (dk_at dksX14_init_0 21 rfl rfl)
theorem dX14_init_24 : decode cX14_init 24 = .ok (.aload_n 0, 1) := dk_42 (dk_at dksX14_init_1 0 rfl rfl)
theorem dX14_init_25 : decode cX14_init 25 = .ok (.invokevirtual 25, 3) := dk_182 0 25 (dk_at dksX14_init_1 1 rfl rfl)
theorem dX14_init_28 : decode cX14_init 28 = .ok (.return_, 1) := dk_177 (dk_at dksX14_init_1 4 rfl rfl)
def dkwX2_init_5 : List UInt8 := [177]
abbrev dktX2_init_5 : List UInt8 := dkwX2_init_5 ++ []
def dkwX2_init_4 : List UInt8 := [50, 182, 0, 52, 192, 0, 39, 83, 42, 43, 180, 0, 56, 154, 0, 7, 3, 167, 0, 4, 2, 181, 0, 60]
abbrev dktX2_init_4 : List UInt8 := dkwX2_init_4 ++ dktX2_init_5
def dkwX2_init_3 : List UInt8 := [3, 43, 180, 0, 47, 3, 50, 182, 0, 52, 192, 0, 39, 83, 42, 180, 0, 40, 4, 43, 180, 0, 47, 4]
abbrev dktX2_init_3 : List UInt8 := dkwX2_init_3 ++ dktX2_init_4
def dkwX2_init_2 : List UInt8 := [197, 0, 34, 2, 181, 0, 36, 42, 5, 189, 0, 39, 181, 0, 40, 42, 43, 181, 0, 43, 42, 180, 0, 40]
abbrev dktX2_init_2 : List UInt8 := dkwX2_init_2 ++ dktX2_init_3
def dkwX2_init_1 : List UInt8 := [181, 0, 23, 42, 7, 188, 10, 181, 0, 27, 42, 16, 7, 188, 10, 181, 0, 31, 42, 7, 16, 6]
abbrev dktX2_init_1 : List UInt8 := dkwX2_init_1 ++ dktX2_init_2
def dkwX2_init_0 : List UInt8 := [42, 183, 0, 3, 42, 187, 0, 9, 89, 7, 183, 0, 11, 181, 0, 14, 42, 187, 0, 20, 89, 183, 0, 22]
abbrev dktX2_init_0 : List UInt8 := dkwX2_init_0 ++ dktX2_init_1
theorem dksX2_init_0 : cX2_init.data.toList.drop 0 = dktX2_init_0 := by decide +kernel
theorem dksX2_init_1 : cX2_init.data.toList.drop 24 = dktX2_init_1 := dk_seg dksX2_init_0 24 rfl rfl
theorem dksX2_init_2 : cX2_init.data.toList.drop 46 = dktX2_init_2 := dk_seg dksX2_init_1 22 rfl rfl
theorem dksX2_init_3 : cX2_init.data.toList.drop 70 = dktX2_init_3 := dk_seg dksX2_init_2 24 rfl rfl
theorem dksX2_init_4 : cX2_init.data.toList.drop 94 = dktX2_init_4 := dk_seg dksX2_init_3 24 rfl rfl
theorem dksX2_init_5 : cX2_init.data.toList.drop 118 = dktX2_init_5 := dk_seg dksX2_init_4 24 rfl rfl
theorem dX2_init_0 : decode cX2_init 0 = .ok (.aload_n 0, 1) := dk_42 (dk_at dksX2_init_0 0 rfl rfl)
theorem dX2_init_1 : decode cX2_init 1 = .ok (.invokespecial 3, 3) := dk_183 0 3 (dk_at dksX2_init_0 1 rfl rfl)
theorem dX2_init_4 : decode cX2_init 4 = .ok (.aload_n 0, 1) := dk_42 (dk_at dksX2_init_0 4 rfl rfl)
theorem dX2_init_5 : decode cX2_init 5 = .ok (.new 9, 3) := dk_187 0 9 (dk_at dksX2_init_0 5 rfl rfl)
theorem dX2_init_8 : decode cX2_init 8 = .ok (.dup, 1) := dk_89 (dk_at dksX2_init_0 8 rfl rfl)
theorem dX2_init_9 : decode cX2_init 9 = .ok (.iconst 4, 1) := dk_7 (dk_at dksX2_init_0 9 rfl rfl)
theorem dX2_init_10 : decode cX2_init 10 = .ok (.invokespecial 11, 3) := dk_183 0 11 (dk_at dksX2_init_0 10 rfl rfl)
theorem dX2_init_13 : decode cX2_init 13 = .ok (.putfield 14, 3) := dk_181 0 14 (dk_at dksX2_init_0 13 rfl rfl)
theorem dX2_init_16 : decode cX2_init 16 = .ok (.aload_n 0, 1) := dk_42 (dk_at dksX2_init_0 16 rfl rfl)
theorem dX2_init_17 : decode cX2_init 17 = .ok (.new 20, 3) := dk_187 0 20 (dk_at dksX2_init_0 17 rfl rfl)
theorem dX2_init_20 : decode cX2_init 20 = .ok (.dup, 1) := dk_89 (dk_at dksX2_init_0 20 rfl rfl)
theorem dX2_init_21 : decode cX2_init 21 = .ok (.invokespecial 22, 3) := dk_183 0 22 (dk_at dksX2_init_0 21 rfl rfl)
theorem dX2_init_24 : decode cX2_init 24 = .ok (.putfield 23, 3) := dk_181 0 23 (dk_at dksX2_init_1 0 rfl rfl)
theorem dX2_init_27 : decode cX2_init 27 = .ok (.aload_n 0, 1) := dk_42 (dk_at dksX2_init_1 3 rfl rfl)
theorem dX2_init_28 : decode cX2_init 28 = .ok (.iconst 4, 1) := dk_7 (dk_at dksX2_init_1 4 rfl rfl)
theorem dX2_init_29 : decode cX2_init 29 = .ok (.newarray .int, 2) := dk_188_10 (dk_at dksX2_init_1 5 rfl rfl)
theorem dX2_init_31 : decode cX2_init 31 = .ok (.putfield 27, 3) := dk_181 0 27 (dk_at dksX2_init_1 7 rfl rfl)
theorem dX2_init_34 : decode cX2_init 34 = .ok (.aload_n 0, 1) := dk_42 (dk_at dksX2_init_1 10 rfl rfl)
theorem dX2_init_35 : decode cX2_init 35 = .ok (.bipush 7, 2) := dk_16 7 (dk_at dksX2_init_1 11 rfl rfl)
theorem dX2_init_37 : decode cX2_init 37 = .ok (.newarray .int, 2) := dk_188_10 (dk_at dksX2_init_1 13 rfl rfl)
theorem dX2_init_39 : decode cX2_init 39 = .ok (.putfield 31, 3) := dk_181 0 31 (dk_at dksX2_init_1 15 rfl rfl)
theorem dX2_init_42 : decode cX2_init 42 = .ok (.aload_n 0, 1) := dk_42 (dk_at dksX2_init_1 18 rfl rfl)
theorem dX2_init_43 : decode cX2_init 43 = .ok (.iconst 4, 1) := dk_7 (dk_at dksX2_init_1 19 rfl rfl)
theorem dX2_init_44 : decode cX2_init 44 = .ok (.bipush 6, 2) := dk_16 6 (dk_at dksX2_init_1 20 rfl rfl)
theorem dX2_init_46 : decode cX2_init 46 = .ok (.multianewarray 34 2, 4) := by decide +kernel
theorem dX2_init_50 : decode cX2_init 50 = .ok (.putfield 36, 3) := dk_181 0 36 (dk_at dksX2_init_2 4 rfl rfl)
theorem dX2_init_53 : decode cX2_init 53 = .ok (.aload_n 0, 1) := dk_42 (dk_at dksX2_init_2 7 rfl rfl)
theorem dX2_init_54 : decode cX2_init 54 = .ok (.iconst 2, 1) := dk_5 (dk_at dksX2_init_2 8 rfl rfl)
theorem dX2_init_55 : decode cX2_init 55 = .ok (.anewarray 39, 3) := dk_189 0 39 (dk_at dksX2_init_2 9 rfl rfl)
theorem dX2_init_58 : decode cX2_init 58 = .ok (.putfield 40, 3) := dk_181 0 40 (dk_at dksX2_init_2 12 rfl rfl)
theorem dX2_init_61 : decode cX2_init 61 = .ok (.aload_n 0, 1) := dk_42 (dk_at dksX2_init_2 15 rfl rfl)
theorem dX2_init_62 : decode cX2_init 62 = .ok (.aload_n 1, 1) := dk_43 (dk_at dksX2_init_2 16 rfl rfl)
theorem dX2_init_63 : decode cX2_init 63 = .ok (.putfield 43, 3) := dk_181 0 43 (dk_at dksX2_init_2 17 rfl rfl)
theorem dX2_init_66 : decode cX2_init 66 = .ok (.aload_n 0, 1) := dk_42 (dk_at dksX2_init_2 20 rfl rfl)
theorem dX2_init_67 : decode cX2_init 67 = .ok (.getfield 40, 3) := dk_180 0 40 (dk_at dksX2_init_2 21 rfl rfl)
theorem dX2_init_70 : decode cX2_init 70 = .ok (.iconst 0, 1) := dk_3 (dk_at dksX2_init_3 0 rfl rfl)
theorem dX2_init_71 : decode cX2_init 71 = .ok (.aload_n 1, 1) := dk_43 (dk_at dksX2_init_3 1 rfl rfl)
theorem dX2_init_72 : decode cX2_init 72 = .ok (.getfield 47, 3) := dk_180 0 47 (dk_at dksX2_init_3 2 rfl rfl)
theorem dX2_init_75 : decode cX2_init 75 = .ok (.iconst 0, 1) := dk_3 (dk_at dksX2_init_3 5 rfl rfl)
theorem dX2_init_76 : decode cX2_init 76 = .ok (.aaload, 1) := dk_50 (dk_at dksX2_init_3 6 rfl rfl)
theorem dX2_init_77 : decode cX2_init 77 = .ok (.invokevirtual 52, 3) := dk_182 0 52 (dk_at dksX2_init_3 7 rfl rfl)
theorem dX2_init_80 : decode cX2_init 80 = .ok (.checkcast 39, 3) := dk_192 0 39 (dk_at dksX2_init_3 10 rfl rfl)
theorem dX2_init_83 : decode cX2_init 83 = .ok (.aastore, 1) := dk_83 (dk_at dksX2_init_3 13 rfl rfl)
theorem dX2_init_84 : decode cX2_init 84 = .ok (.aload_n 0, 1) := dk_42 (dk_at dksX2_init_3 14 rfl rfl)
theorem dX2_init_85 : decode cX2_init 85 = .ok (.getfield 40, 3) := dk_180 0 40 (dk_at dksX2_init_3 15 rfl rfl)
theorem dX2_init_88 : decode cX2_init 88 = .ok (.iconst 1, 1) := dk_4 (dk_at dksX2_init_3 18 rfl rfl)
theorem dX2_init_89 : decode cX2_init 89 = .ok (.aload_n 1, 1) := dk_43 (dk_at dksX2_init_3 19 rfl rfl)
theorem dX2_init_90 : decode cX2_init 90 = .ok (.getfield 47, 3) := dk_180 0 47 (dk_at dksX2_init_3 20 rfl rfl)
theorem dX2_init_93 : decode cX2_init 93 = .ok (.iconst 1, 1) := dk_4 (dk_at dksX2_init_3 23 rfl rfl)
theorem dX2_init_94 : decode cX2_init 94 = .ok (.aaload, 1) := dk_50 (dk_at dksX2_init_4 0 rfl rfl)
theorem dX2_init_95 : decode cX2_init 95 = .ok (.invokevirtual 52, 3) := dk_182 0 52 (dk_at dksX2_init_4 1 rfl rfl)
theorem dX2_init_98 : decode cX2_init 98 = .ok (.checkcast 39, 3) := dk_192 0 39 (dk_at dksX2_init_4 4 rfl rfl)
theorem dX2_init_101 : decode cX2_init 101 = .ok (.aastore, 1) := dk_83 (dk_at dksX2_init_4 7 rfl rfl)
theorem dX2_init_102 : decode cX2_init 102 = .ok (.aload_n 0, 1) := dk_42 (dk_at dksX2_init_4 8 rfl rfl)
theorem dX2_init_103 : decode cX2_init 103 = .ok (.aload_n 1, 1) := dk_43 (dk_at dksX2_init_4 9 rfl rfl)
theorem dX2_init_104 : decode cX2_init 104 = .ok (.getfield 56, 3) := dk_180 0 56 (dk_at dksX2_init_4 10 rfl rfl)
theorem dX2_init_107 : decode cX2_init 107 = .ok (.ifCond .ne 7, 3) := dk_154 0 7 (dk_at dksX2_init_4 13 rfl rfl)
theorem dX2_init_110 : decode cX2_init 110 = .ok (.iconst 0, 1) := dk_3 (dk_at dksX2_init_4 16 rfl rfl)
theorem dX2_init_111 : decode cX2_init 111 = .ok (.goto 4, 3) := dk_167 0 4 (dk_at dksX2_init_4 17 rfl rfl)
theorem dX2_init_114 : decode cX2_init 114 = .ok (.iconst (-1), 1) := dk_2 (dk_at dksX2_init_4 20 rfl rfl)
theorem dX2_init_115 : decode cX2_init 115 = .ok (.putfield 60, 3) := dk_181 0 60 (dk_at dksX2_init_4 21 rfl rfl)
theorem dX2_init_118 : decode cX2_init 118 = .ok (.return_, 1) := dk_177 (dk_at dksX2_init_5 0 rfl rfl)
def dkwX2_canHint_1 : List UInt8 := [182, 0, 218, 153, 0, 7, 4, 167, 0, 4, 3, 172]
abbrev dktX2_canHint_1 : List UInt8 := dkwX2_canHint_1 ++ []
def dkwX2_canHint_0 : List UInt8 := [42, 180, 0, 112, 158, 0, 28, 42, 180, 0, 40, 28, 50, 29, 46, 158, 0, 17, 42, 27, 28, 29]
abbrev dktX2_canHint_0 : List UInt8 := dkwX2_canHint_0 ++ dktX2_canHint_1
theorem dksX2_canHint_0 : cX2_canHint.data.toList.drop 0 = dktX2_canHint_0 := by decide +kernel
theorem dksX2_canHint_1 : cX2_canHint.data.toList.drop 22 = dktX2_canHint_1 := dk_seg dksX2_canHint_0 22 rfl rfl
theorem dX2_canHint_0 : decode cX2_canHint 0 = .ok (.aload_n 0, 1) := dk_42 (dk_at dksX2_canHint_0 0 rfl rfl)
theorem dX2_canHint_1 : decode cX2_canHint 1 = .ok (.getfield 112, 3) := dk_180 0 112 (dk_at dksX2_canHint_0 1 rfl rfl)
theorem dX2_canHint_4 : decode cX2_canHint 4 = .ok (.ifCond .le 28, 3) := dk_158 0 28 (dk_at dksX2_canHint_0 4 rfl rfl)
theorem dX2_canHint_7 : decode cX2_canHint 7 = .ok (.aload_n 0, 1) := dk_42 (dk_at dksX2_canHint_0 7 rfl rfl)
theorem dX2_canHint_8 : decode cX2_canHint 8 = .ok (.getfield 40, 3) := dk_180 0 40 (dk_at dksX2_canHint_0 8 rfl rfl)
theorem dX2_canHint_11 : decode cX2_canHint 11 = .ok (.iload_n 2, 1) := dk_28 (dk_at dksX2_canHint_0 11 rfl rfl)
theorem dX2_canHint_12 : decode cX2_canHint 12 = .ok (.aaload, 1) := dk_50 (dk_at dksX2_canHint_0 12 rfl rfl)
theorem dX2_canHint_13 : decode cX2_canHint 13 = .ok (.iload_n 3, 1) := dk_29 (dk_at dksX2_canHint_0 13 rfl rfl)
theorem dX2_canHint_14 : decode cX2_canHint 14 = .ok (.iaload, 1) := dk_46 (dk_at dksX2_canHint_0 14 rfl rfl)
theorem dX2_canHint_15 : decode cX2_canHint 15 = .ok (.ifCond .le 17, 3) := dk_158 0 17 (dk_at dksX2_canHint_0 15 rfl rfl)
theorem dX2_canHint_18 : decode cX2_canHint 18 = .ok (.aload_n 0, 1) := dk_42 (dk_at dksX2_canHint_0 18 rfl rfl)
theorem dX2_canHint_19 : decode cX2_canHint 19 = .ok (.iload_n 1, 1) := dk_27 (dk_at dksX2_canHint_0 19 rfl rfl)
theorem dX2_canHint_20 : decode cX2_canHint 20 = .ok (.iload_n 2, 1) := dk_28 (dk_at dksX2_canHint_0 20 rfl rfl)
theorem dX2_canHint_21 : decode cX2_canHint 21 = .ok (.iload_n 3, 1) := dk_29 (dk_at dksX2_canHint_0 21 rfl rfl)
theorem dX2_canHint_22 : decode cX2_canHint 22 = .ok (.invokevirtual 218, 3) := dk_182 0 218 (dk_at dksX2_canHint_1 0 rfl rfl)
theorem dX2_canHint_25 : decode cX2_canHint 25 = .ok (.ifCond .eq 7, 3) := dk_153 0 7 (dk_at dksX2_canHint_1 3 rfl rfl)
theorem dX2_canHint_28 : decode cX2_canHint 28 = .ok (.iconst 1, 1) := dk_4 (dk_at dksX2_canHint_1 6 rfl rfl)
theorem dX2_canHint_29 : decode cX2_canHint 29 = .ok (.goto 4, 3) := dk_167 0 4 (dk_at dksX2_canHint_1 7 rfl rfl)
theorem dX2_canHint_32 : decode cX2_canHint 32 = .ok (.iconst 0, 1) := dk_3 (dk_at dksX2_canHint_1 10 rfl rfl)
theorem dX2_canHint_33 : decode cX2_canHint 33 = .ok (.ireturn, 1) := dk_172 (dk_at dksX2_canHint_1 11 rfl rfl)
def dkwX2_touches_3 : List UInt8 := [132, 5, 1, 167, 255, 190, 21, 4, 172]
abbrev dktX2_touches_3 : List UInt8 := dkwX2_touches_3 ++ []
def dkwX2_touches_2 : List UInt8 := [192, 0, 93, 28, 29, 182, 0, 215, 153, 0, 10, 4, 21, 5, 120, 167, 0, 4, 3, 128, 54, 4]
abbrev dktX2_touches_2 : List UInt8 := dkwX2_touches_2 ++ dktX2_touches_3
def dkwX2_touches_1 : List UInt8 := [162, 0, 51, 21, 4, 42, 180, 0, 14, 27, 185, 0, 76, 2, 0, 192, 0, 20, 21, 5, 182, 0, 167]
abbrev dktX2_touches_1 : List UInt8 := dkwX2_touches_1 ++ dktX2_touches_2
def dkwX2_touches_0 : List UInt8 := [3, 54, 4, 3, 54, 5, 21, 5, 42, 180, 0, 14, 27, 185, 0, 76, 2, 0, 192, 0, 20, 182, 0, 166]
abbrev dktX2_touches_0 : List UInt8 := dkwX2_touches_0 ++ dktX2_touches_1
theorem dksX2_touches_0 : cX2_touches.data.toList.drop 0 = dktX2_touches_0 := by decide +kernel
theorem dksX2_touches_1 : cX2_touches.data.toList.drop 24 = dktX2_touches_1 := dk_seg dksX2_touches_0 24 rfl rfl
theorem dksX2_touches_2 : cX2_touches.data.toList.drop 47 = dktX2_touches_2 := dk_seg dksX2_touches_1 23 rfl rfl
theorem dksX2_touches_3 : cX2_touches.data.toList.drop 69 = dktX2_touches_3 := dk_seg dksX2_touches_2 22 rfl rfl
theorem dX2_touches_0 : decode cX2_touches 0 = .ok (.iconst 0, 1) := dk_3 (dk_at dksX2_touches_0 0 rfl rfl)
theorem dX2_touches_1 : decode cX2_touches 1 = .ok (.istore 4, 2) := dk_54 4 (dk_at dksX2_touches_0 1 rfl rfl)
theorem dX2_touches_3 : decode cX2_touches 3 = .ok (.iconst 0, 1) := dk_3 (dk_at dksX2_touches_0 3 rfl rfl)
theorem dX2_touches_4 : decode cX2_touches 4 = .ok (.istore 5, 2) := dk_54 5 (dk_at dksX2_touches_0 4 rfl rfl)
theorem dX2_touches_6 : decode cX2_touches 6 = .ok (.iload 5, 2) := dk_21 5 (dk_at dksX2_touches_0 6 rfl rfl)
theorem dX2_touches_8 : decode cX2_touches 8 = .ok (.aload_n 0, 1) := dk_42 (dk_at dksX2_touches_0 8 rfl rfl)
theorem dX2_touches_9 : decode cX2_touches 9 = .ok (.getfield 14, 3) := dk_180 0 14 (dk_at dksX2_touches_0 9 rfl rfl)
theorem dX2_touches_12 : decode cX2_touches 12 = .ok (.iload_n 1, 1) := dk_27 (dk_at dksX2_touches_0 12 rfl rfl)
theorem dX2_touches_13 : decode cX2_touches 13 = .ok (.invokeinterface 76 2, 5) := by decide +kernel
theorem dX2_touches_18 : decode cX2_touches 18 = .ok (.checkcast 20, 3) := dk_192 0 20 (dk_at dksX2_touches_0 18 rfl rfl)
theorem dX2_touches_21 : decode cX2_touches 21 = .ok (.invokevirtual 166, 3) := dk_182 0 166 (dk_at dksX2_touches_0 21 rfl rfl)
theorem dX2_touches_24 : decode cX2_touches 24 = .ok (.if_icmp .ge 51, 3) := dk_162 0 51 (dk_at dksX2_touches_1 0 rfl rfl)
theorem dX2_touches_27 : decode cX2_touches 27 = .ok (.iload 4, 2) := dk_21 4 (dk_at dksX2_touches_1 3 rfl rfl)
theorem dX2_touches_29 : decode cX2_touches 29 = .ok (.aload_n 0, 1) := dk_42 (dk_at dksX2_touches_1 5 rfl rfl)
theorem dX2_touches_30 : decode cX2_touches 30 = .ok (.getfield 14, 3) := dk_180 0 14 (dk_at dksX2_touches_1 6 rfl rfl)
theorem dX2_touches_33 : decode cX2_touches 33 = .ok (.iload_n 1, 1) := dk_27 (dk_at dksX2_touches_1 9 rfl rfl)
theorem dX2_touches_34 : decode cX2_touches 34 = .ok (.invokeinterface 76 2, 5) := by decide +kernel
theorem dX2_touches_39 : decode cX2_touches 39 = .ok (.checkcast 20, 3) := dk_192 0 20 (dk_at dksX2_touches_1 15 rfl rfl)
theorem dX2_touches_42 : decode cX2_touches 42 = .ok (.iload 5, 2) := dk_21 5 (dk_at dksX2_touches_1 18 rfl rfl)
theorem dX2_touches_44 : decode cX2_touches 44 = .ok (.invokevirtual 167, 3) := dk_182 0 167 (dk_at dksX2_touches_1 20 rfl rfl)
theorem dX2_touches_47 : decode cX2_touches 47 = .ok (.checkcast 93, 3) := dk_192 0 93 (dk_at dksX2_touches_2 0 rfl rfl)
theorem dX2_touches_50 : decode cX2_touches 50 = .ok (.iload_n 2, 1) := dk_28 (dk_at dksX2_touches_2 3 rfl rfl)
theorem dX2_touches_51 : decode cX2_touches 51 = .ok (.iload_n 3, 1) := dk_29 (dk_at dksX2_touches_2 4 rfl rfl)
theorem dX2_touches_52 : decode cX2_touches 52 = .ok (.invokevirtual 215, 3) := dk_182 0 215 (dk_at dksX2_touches_2 5 rfl rfl)
theorem dX2_touches_55 : decode cX2_touches 55 = .ok (.ifCond .eq 10, 3) := dk_153 0 10 (dk_at dksX2_touches_2 8 rfl rfl)
theorem dX2_touches_58 : decode cX2_touches 58 = .ok (.iconst 1, 1) := dk_4 (dk_at dksX2_touches_2 11 rfl rfl)
theorem dX2_touches_59 : decode cX2_touches 59 = .ok (.iload 5, 2) := dk_21 5 (dk_at dksX2_touches_2 12 rfl rfl)
theorem dX2_touches_61 : decode cX2_touches 61 = .ok (.ishl, 1) := dk_120 (dk_at dksX2_touches_2 14 rfl rfl)
theorem dX2_touches_62 : decode cX2_touches 62 = .ok (.goto 4, 3) := dk_167 0 4 (dk_at dksX2_touches_2 15 rfl rfl)
theorem dX2_touches_65 : decode cX2_touches 65 = .ok (.iconst 0, 1) := dk_3 (dk_at dksX2_touches_2 18 rfl rfl)
theorem dX2_touches_66 : decode cX2_touches 66 = .ok (.ior, 1) := dk_128 (dk_at dksX2_touches_2 19 rfl rfl)
theorem dX2_touches_67 : decode cX2_touches 67 = .ok (.istore 4, 2) := dk_54 4 (dk_at dksX2_touches_2 20 rfl rfl)
theorem dX2_touches_69 : decode cX2_touches 69 = .ok (.iinc 5 1, 3) := dk_132 5 1 (dk_at dksX2_touches_3 0 rfl rfl)
theorem dX2_touches_72 : decode cX2_touches 72 = .ok (.goto (-66), 3) := dk_167 255 190 (dk_at dksX2_touches_3 3 rfl rfl)
theorem dX2_touches_75 : decode cX2_touches 75 = .ok (.iload 4, 2) := dk_21 4 (dk_at dksX2_touches_3 6 rfl rfl)
theorem dX2_touches_77 : decode cX2_touches 77 = .ok (.ireturn, 1) := dk_172 (dk_at dksX2_touches_3 8 rfl rfl)
def dkwX2_begins_4 : List UInt8 := [185, 0, 66, 1, 0, 160, 0, 14, 42, 42, 180, 0, 43, 180, 0, 56, 181, 0, 60, 177]
abbrev dktX2_begins_4 : List UInt8 := dkwX2_begins_4 ++ []
def dkwX2_begins_3 : List UInt8 := [132, 2, 1, 167, 255, 237, 132, 1, 1, 167, 255, 201, 42, 180, 0, 110, 42, 180, 0, 43, 180, 0, 134]
abbrev dktX2_begins_3 : List UInt8 := dkwX2_begins_3 ++ dktX2_begins_4
def dkwX2_begins_2 : List UInt8 := [185, 0, 72, 2, 0, 87, 3, 61, 28, 42, 180, 0, 43, 180, 0, 128, 162, 0, 14, 42, 27, 182, 0, 131]
abbrev dktX2_begins_2 : List UInt8 := dkwX2_begins_2 ++ dktX2_begins_3
def dkwX2_begins_1 : List UInt8 := [27, 42, 180, 0, 43, 180, 0, 56, 162, 0, 50, 42, 180, 0, 14, 187, 0, 20, 89, 183, 0, 22]
abbrev dktX2_begins_1 : List UInt8 := dkwX2_begins_1 ++ dktX2_begins_2
def dkwX2_begins_0 : List UInt8 := [42, 42, 180, 0, 43, 180, 0, 124, 181, 0, 112, 42, 42, 180, 0, 43, 180, 0, 127, 181, 0, 115, 3, 60]
abbrev dktX2_begins_0 : List UInt8 := dkwX2_begins_0 ++ dktX2_begins_1
theorem dksX2_begins_0 : cX2_begins.data.toList.drop 0 = dktX2_begins_0 := by decide +kernel
theorem dksX2_begins_1 : cX2_begins.data.toList.drop 24 = dktX2_begins_1 := dk_seg dksX2_begins_0 24 rfl rfl
theorem dksX2_begins_2 : cX2_begins.data.toList.drop 46 = dktX2_begins_2 := dk_seg dksX2_begins_1 22 rfl rfl
theorem dksX2_begins_3 : cX2_begins.data.toList.drop 70 = dktX2_begins_3 := dk_seg dksX2_begins_2 24 rfl rfl
theorem dksX2_begins_4 : cX2_begins.data.toList.drop 93 = dktX2_begins_4 := dk_seg dksX2_begins_3 23 rfl rfl
theorem dX2_begins_0 : decode cX2_begins 0 = .ok (.aload_n 0, 1) := dk_42 (dk_at dksX2_begins_0 0 rfl rfl)
theorem dX2_begins_1 : decode cX2_begins 1 = .ok (.aload_n 0, 1) := dk_42 (dk_at dksX2_begins_0 1 rfl rfl)
theorem dX2_begins_2 : decode cX2_begins 2 = .ok (.getfield 43, 3) := dk_180 0 43 (dk_at dksX2_begins_0 2 rfl rfl)
theorem dX2_begins_5 : decode cX2_begins 5 = .ok (.getfield 124, 3) := dk_180 0 124 (dk_at dksX2_begins_0 5 rfl rfl)
theorem dX2_begins_8 : decode cX2_begins 8 = .ok (.putfield 112, 3) := dk_181 0 112 (dk_at dksX2_begins_0 8 rfl rfl)
theorem dX2_begins_11 : decode cX2_begins 11 = .ok (.aload_n 0, 1) := dk_42 (dk_at dksX2_begins_0 11 rfl rfl)
theorem dX2_begins_12 : decode cX2_begins 12 = .ok (.aload_n 0, 1) := dk_42 (dk_at dksX2_begins_0 12 rfl rfl)
theorem dX2_begins_13 : decode cX2_begins 13 = .ok (.getfield 43, 3) := dk_180 0 43 (dk_at dksX2_begins_0 13 rfl rfl)
theorem dX2_begins_16 : decode cX2_begins 16 = .ok (.getfield 127, 3) := dk_180 0 127 (dk_at dksX2_begins_0 16 rfl rfl)
theorem dX2_begins_19 : decode cX2_begins 19 = .ok (.putfield 115, 3) := dk_181 0 115 (dk_at dksX2_begins_0 19 rfl rfl)
theorem dX2_begins_22 : decode cX2_begins 22 = .ok (.iconst 0, 1) := dk_3 (dk_at dksX2_begins_0 22 rfl rfl)
theorem dX2_begins_23 : decode cX2_begins 23 = .ok (.istore_n 1, 1) := dk_60 (dk_at dksX2_begins_0 23 rfl rfl)
theorem dX2_begins_24 : decode cX2_begins 24 = .ok (.iload_n 1, 1) := dk_27 (dk_at dksX2_begins_1 0 rfl rfl)
theorem dX2_begins_25 : decode cX2_begins 25 = .ok (.aload_n 0, 1) := dk_42 (dk_at dksX2_begins_1 1 rfl rfl)
theorem dX2_begins_26 : decode cX2_begins 26 = .ok (.getfield 43, 3) := dk_180 0 43 (dk_at dksX2_begins_1 2 rfl rfl)
theorem dX2_begins_29 : decode cX2_begins 29 = .ok (.getfield 56, 3) := dk_180 0 56 (dk_at dksX2_begins_1 5 rfl rfl)
theorem dX2_begins_32 : decode cX2_begins 32 = .ok (.if_icmp .ge 50, 3) := dk_162 0 50 (dk_at dksX2_begins_1 8 rfl rfl)
theorem dX2_begins_35 : decode cX2_begins 35 = .ok (.aload_n 0, 1) := dk_42 (dk_at dksX2_begins_1 11 rfl rfl)
theorem dX2_begins_36 : decode cX2_begins 36 = .ok (.getfield 14, 3) := dk_180 0 14 (dk_at dksX2_begins_1 12 rfl rfl)
theorem dX2_begins_39 : decode cX2_begins 39 = .ok (.new 20, 3) := dk_187 0 20 (dk_at dksX2_begins_1 15 rfl rfl)
theorem dX2_begins_42 : decode cX2_begins 42 = .ok (.dup, 1) := dk_89 (dk_at dksX2_begins_1 18 rfl rfl)
theorem dX2_begins_43 : decode cX2_begins 43 = .ok (.invokespecial 22, 3) := dk_183 0 22 (dk_at dksX2_begins_1 19 rfl rfl)
theorem dX2_begins_46 : decode cX2_begins 46 = .ok (.invokeinterface 72 2, 5) := by decide +kernel
theorem dX2_begins_51 : decode cX2_begins 51 = .ok (.pop, 1) := dk_87 (dk_at dksX2_begins_2 5 rfl rfl)
theorem dX2_begins_52 : decode cX2_begins 52 = .ok (.iconst 0, 1) := dk_3 (dk_at dksX2_begins_2 6 rfl rfl)
theorem dX2_begins_53 : decode cX2_begins 53 = .ok (.istore_n 2, 1) := dk_61 (dk_at dksX2_begins_2 7 rfl rfl)
theorem dX2_begins_54 : decode cX2_begins 54 = .ok (.iload_n 2, 1) := dk_28 (dk_at dksX2_begins_2 8 rfl rfl)
theorem dX2_begins_55 : decode cX2_begins 55 = .ok (.aload_n 0, 1) := dk_42 (dk_at dksX2_begins_2 9 rfl rfl)
theorem dX2_begins_56 : decode cX2_begins 56 = .ok (.getfield 43, 3) := dk_180 0 43 (dk_at dksX2_begins_2 10 rfl rfl)
theorem dX2_begins_59 : decode cX2_begins 59 = .ok (.getfield 128, 3) := dk_180 0 128 (dk_at dksX2_begins_2 13 rfl rfl)
theorem dX2_begins_62 : decode cX2_begins 62 = .ok (.if_icmp .ge 14, 3) := dk_162 0 14 (dk_at dksX2_begins_2 16 rfl rfl)
theorem dX2_begins_65 : decode cX2_begins 65 = .ok (.aload_n 0, 1) := dk_42 (dk_at dksX2_begins_2 19 rfl rfl)
theorem dX2_begins_66 : decode cX2_begins 66 = .ok (.iload_n 1, 1) := dk_27 (dk_at dksX2_begins_2 20 rfl rfl)
theorem dX2_begins_67 : decode cX2_begins 67 = .ok (.invokevirtual 131, 3) := dk_182 0 131 (dk_at dksX2_begins_2 21 rfl rfl)
theorem dX2_begins_70 : decode cX2_begins 70 = .ok (.iinc 2 1, 3) := dk_132 2 1 (dk_at dksX2_begins_3 0 rfl rfl)
theorem dX2_begins_73 : decode cX2_begins 73 = .ok (.goto (-19), 3) := dk_167 255 237 (dk_at dksX2_begins_3 3 rfl rfl)
theorem dX2_begins_76 : decode cX2_begins 76 = .ok (.iinc 1 1, 3) := dk_132 1 1 (dk_at dksX2_begins_3 6 rfl rfl)
theorem dX2_begins_79 : decode cX2_begins 79 = .ok (.goto (-55), 3) := dk_167 255 201 (dk_at dksX2_begins_3 9 rfl rfl)
theorem dX2_begins_82 : decode cX2_begins 82 = .ok (.aload_n 0, 1) := dk_42 (dk_at dksX2_begins_3 12 rfl rfl)
theorem dX2_begins_83 : decode cX2_begins 83 = .ok (.getfield 110, 3) := dk_180 0 110 (dk_at dksX2_begins_3 13 rfl rfl)
theorem dX2_begins_86 : decode cX2_begins 86 = .ok (.aload_n 0, 1) := dk_42 (dk_at dksX2_begins_3 16 rfl rfl)
theorem dX2_begins_87 : decode cX2_begins 87 = .ok (.getfield 43, 3) := dk_180 0 43 (dk_at dksX2_begins_3 17 rfl rfl)
theorem dX2_begins_90 : decode cX2_begins 90 = .ok (.getfield 134, 3) := dk_180 0 134 (dk_at dksX2_begins_3 20 rfl rfl)
theorem dX2_begins_93 : decode cX2_begins 93 = .ok (.invokeinterface 66 1, 5) := by decide +kernel
theorem dX2_begins_98 : decode cX2_begins 98 = .ok (.if_icmp .ne 14, 3) := dk_160 0 14 (dk_at dksX2_begins_4 5 rfl rfl)
theorem dX2_begins_101 : decode cX2_begins 101 = .ok (.aload_n 0, 1) := dk_42 (dk_at dksX2_begins_4 8 rfl rfl)
theorem dX2_begins_102 : decode cX2_begins 102 = .ok (.aload_n 0, 1) := dk_42 (dk_at dksX2_begins_4 9 rfl rfl)
theorem dX2_begins_103 : decode cX2_begins 103 = .ok (.getfield 43, 3) := dk_180 0 43 (dk_at dksX2_begins_4 10 rfl rfl)
theorem dX2_begins_106 : decode cX2_begins 106 = .ok (.getfield 56, 3) := dk_180 0 56 (dk_at dksX2_begins_4 13 rfl rfl)
theorem dX2_begins_109 : decode cX2_begins 109 = .ok (.putfield 60, 3) := dk_181 0 60 (dk_at dksX2_begins_4 16 rfl rfl)
theorem dX2_begins_112 : decode cX2_begins 112 = .ok (.return_, 1) := dk_177 (dk_at dksX2_begins_4 19 rfl rfl)
def dkwX2_draws_3 : List UInt8 := [180, 0, 142, 120, 4, 100, 183, 0, 145, 182, 0, 100, 42, 89, 180, 0, 110, 4, 96, 181, 0, 110, 177]
abbrev dktX2_draws_3 : List UInt8 := dkwX2_draws_3 ++ []
def dkwX2_draws_2 : List UInt8 := [185, 0, 76, 2, 0, 192, 0, 137, 4, 42, 180, 0, 43, 180, 0, 139, 120, 4, 100, 4, 42, 180, 0, 43]
abbrev dktX2_draws_2 : List UInt8 := dkwX2_draws_2 ++ dktX2_draws_3
def dkwX2_draws_1 : List UInt8 := [27, 185, 0, 76, 2, 0, 192, 0, 20, 187, 0, 93, 89, 42, 180, 0, 43, 180, 0, 134, 42, 180, 0, 110]
abbrev dktX2_draws_1 : List UInt8 := dkwX2_draws_1 ++ dktX2_draws_2
def dkwX2_draws_0 : List UInt8 := [42, 180, 0, 110, 42, 180, 0, 43, 180, 0, 134, 185, 0, 66, 1, 0, 160, 0, 4, 177, 42, 180, 0, 14]
abbrev dktX2_draws_0 : List UInt8 := dkwX2_draws_0 ++ dktX2_draws_1
theorem dksX2_draws_0 : cX2_draws.data.toList.drop 0 = dktX2_draws_0 := by decide +kernel
theorem dksX2_draws_1 : cX2_draws.data.toList.drop 24 = dktX2_draws_1 := dk_seg dksX2_draws_0 24 rfl rfl
theorem dksX2_draws_2 : cX2_draws.data.toList.drop 48 = dktX2_draws_2 := dk_seg dksX2_draws_1 24 rfl rfl
theorem dksX2_draws_3 : cX2_draws.data.toList.drop 72 = dktX2_draws_3 := dk_seg dksX2_draws_2 24 rfl rfl
theorem dX2_draws_0 : decode cX2_draws 0 = .ok (.aload_n 0, 1) := dk_42 (dk_at dksX2_draws_0 0 rfl rfl)
theorem dX2_draws_1 : decode cX2_draws 1 = .ok (.getfield 110, 3) := dk_180 0 110 (dk_at dksX2_draws_0 1 rfl rfl)
theorem dX2_draws_4 : decode cX2_draws 4 = .ok (.aload_n 0, 1) := dk_42 (dk_at dksX2_draws_0 4 rfl rfl)
theorem dX2_draws_5 : decode cX2_draws 5 = .ok (.getfield 43, 3) := dk_180 0 43 (dk_at dksX2_draws_0 5 rfl rfl)
theorem dX2_draws_8 : decode cX2_draws 8 = .ok (.getfield 134, 3) := dk_180 0 134 (dk_at dksX2_draws_0 8 rfl rfl)
theorem dX2_draws_11 : decode cX2_draws 11 = .ok (.invokeinterface 66 1, 5) := by decide +kernel
theorem dX2_draws_16 : decode cX2_draws 16 = .ok (.if_icmp .ne 4, 3) := dk_160 0 4 (dk_at dksX2_draws_0 16 rfl rfl)
theorem dX2_draws_19 : decode cX2_draws 19 = .ok (.return_, 1) := dk_177 (dk_at dksX2_draws_0 19 rfl rfl)
theorem dX2_draws_20 : decode cX2_draws 20 = .ok (.aload_n 0, 1) := dk_42 (dk_at dksX2_draws_0 20 rfl rfl)
theorem dX2_draws_21 : decode cX2_draws 21 = .ok (.getfield 14, 3) := dk_180 0 14 (dk_at dksX2_draws_0 21 rfl rfl)
theorem dX2_draws_24 : decode cX2_draws 24 = .ok (.iload_n 1, 1) := dk_27 (dk_at dksX2_draws_1 0 rfl rfl)
theorem dX2_draws_25 : decode cX2_draws 25 = .ok (.invokeinterface 76 2, 5) := by decide +kernel
theorem dX2_draws_30 : decode cX2_draws 30 = .ok (.checkcast 20, 3) := dk_192 0 20 (dk_at dksX2_draws_1 6 rfl rfl)
theorem dX2_draws_33 : decode cX2_draws 33 = .ok (.new 93, 3) := dk_187 0 93 (dk_at dksX2_draws_1 9 rfl rfl)
theorem dX2_draws_36 : decode cX2_draws 36 = .ok (.dup, 1) := dk_89 (dk_at dksX2_draws_1 12 rfl rfl)
theorem dX2_draws_37 : decode cX2_draws 37 = .ok (.aload_n 0, 1) := dk_42 (dk_at dksX2_draws_1 13 rfl rfl)
theorem dX2_draws_38 : decode cX2_draws 38 = .ok (.getfield 43, 3) := dk_180 0 43 (dk_at dksX2_draws_1 14 rfl rfl)
theorem dX2_draws_41 : decode cX2_draws 41 = .ok (.getfield 134, 3) := dk_180 0 134 (dk_at dksX2_draws_1 17 rfl rfl)
theorem dX2_draws_44 : decode cX2_draws 44 = .ok (.aload_n 0, 1) := dk_42 (dk_at dksX2_draws_1 20 rfl rfl)
theorem dX2_draws_45 : decode cX2_draws 45 = .ok (.getfield 110, 3) := dk_180 0 110 (dk_at dksX2_draws_1 21 rfl rfl)
theorem dX2_draws_48 : decode cX2_draws 48 = .ok (.invokeinterface 76 2, 5) := by decide +kernel
theorem dX2_draws_53 : decode cX2_draws 53 = .ok (.checkcast 137, 3) := dk_192 0 137 (dk_at dksX2_draws_2 5 rfl rfl)
theorem dX2_draws_56 : decode cX2_draws 56 = .ok (.iconst 1, 1) := dk_4 (dk_at dksX2_draws_2 8 rfl rfl)
theorem dX2_draws_57 : decode cX2_draws 57 = .ok (.aload_n 0, 1) := dk_42 (dk_at dksX2_draws_2 9 rfl rfl)
theorem dX2_draws_58 : decode cX2_draws 58 = .ok (.getfield 43, 3) := dk_180 0 43 (dk_at dksX2_draws_2 10 rfl rfl)
theorem dX2_draws_61 : decode cX2_draws 61 = .ok (.getfield 139, 3) := dk_180 0 139 (dk_at dksX2_draws_2 13 rfl rfl)
theorem dX2_draws_64 : decode cX2_draws 64 = .ok (.ishl, 1) := dk_120 (dk_at dksX2_draws_2 16 rfl rfl)
theorem dX2_draws_65 : decode cX2_draws 65 = .ok (.iconst 1, 1) := dk_4 (dk_at dksX2_draws_2 17 rfl rfl)
theorem dX2_draws_66 : decode cX2_draws 66 = .ok (.isub, 1) := dk_100 (dk_at dksX2_draws_2 18 rfl rfl)
theorem dX2_draws_67 : decode cX2_draws 67 = .ok (.iconst 1, 1) := dk_4 (dk_at dksX2_draws_2 19 rfl rfl)
theorem dX2_draws_68 : decode cX2_draws 68 = .ok (.aload_n 0, 1) := dk_42 (dk_at dksX2_draws_2 20 rfl rfl)
theorem dX2_draws_69 : decode cX2_draws 69 = .ok (.getfield 43, 3) := dk_180 0 43 (dk_at dksX2_draws_2 21 rfl rfl)
theorem dX2_draws_72 : decode cX2_draws 72 = .ok (.getfield 142, 3) := dk_180 0 142 (dk_at dksX2_draws_3 0 rfl rfl)
theorem dX2_draws_75 : decode cX2_draws 75 = .ok (.ishl, 1) := dk_120 (dk_at dksX2_draws_3 3 rfl rfl)
theorem dX2_draws_76 : decode cX2_draws 76 = .ok (.iconst 1, 1) := dk_4 (dk_at dksX2_draws_3 4 rfl rfl)
theorem dX2_draws_77 : decode cX2_draws 77 = .ok (.isub, 1) := dk_100 (dk_at dksX2_draws_3 5 rfl rfl)
theorem dX2_draws_78 : decode cX2_draws 78 = .ok (.invokespecial 145, 3) := dk_183 0 145 (dk_at dksX2_draws_3 6 rfl rfl)
theorem dX2_draws_81 : decode cX2_draws 81 = .ok (.invokevirtual 100, 3) := dk_182 0 100 (dk_at dksX2_draws_3 9 rfl rfl)
theorem dX2_draws_84 : decode cX2_draws 84 = .ok (.aload_n 0, 1) := dk_42 (dk_at dksX2_draws_3 12 rfl rfl)
theorem dX2_draws_85 : decode cX2_draws 85 = .ok (.dup, 1) := dk_89 (dk_at dksX2_draws_3 13 rfl rfl)
theorem dX2_draws_86 : decode cX2_draws 86 = .ok (.getfield 110, 3) := dk_180 0 110 (dk_at dksX2_draws_3 14 rfl rfl)
theorem dX2_draws_89 : decode cX2_draws 89 = .ok (.iconst 1, 1) := dk_4 (dk_at dksX2_draws_3 17 rfl rfl)
theorem dX2_draws_90 : decode cX2_draws 90 = .ok (.iadd, 1) := dk_96 (dk_at dksX2_draws_3 18 rfl rfl)
theorem dX2_draws_91 : decode cX2_draws 91 = .ok (.putfield 110, 3) := dk_181 0 110 (dk_at dksX2_draws_3 19 rfl rfl)
theorem dX2_draws_94 : decode cX2_draws 94 = .ok (.return_, 1) := dk_177 (dk_at dksX2_draws_3 22 rfl rfl)
def dkwX2_over_1 : List UInt8 := [182, 0, 148, 153, 0, 7, 5, 167, 0, 15, 42, 180, 0, 60, 154, 0, 7, 6, 167, 0, 4, 3, 172]
abbrev dktX2_over_1 : List UInt8 := dkwX2_over_1 ++ []
def dkwX2_over_0 : List UInt8 := [42, 180, 0, 43, 180, 0, 56, 154, 0, 5, 6, 172, 42, 180, 0, 115, 154, 0, 7, 4, 167, 0, 26, 42]
abbrev dktX2_over_0 : List UInt8 := dkwX2_over_0 ++ dktX2_over_1
theorem dksX2_over_0 : cX2_over.data.toList.drop 0 = dktX2_over_0 := by decide +kernel
theorem dksX2_over_1 : cX2_over.data.toList.drop 24 = dktX2_over_1 := dk_seg dksX2_over_0 24 rfl rfl
theorem dX2_over_0 : decode cX2_over 0 = .ok (.aload_n 0, 1) := dk_42 (dk_at dksX2_over_0 0 rfl rfl)
theorem dX2_over_1 : decode cX2_over 1 = .ok (.getfield 43, 3) := dk_180 0 43 (dk_at dksX2_over_0 1 rfl rfl)
theorem dX2_over_4 : decode cX2_over 4 = .ok (.getfield 56, 3) := dk_180 0 56 (dk_at dksX2_over_0 4 rfl rfl)
theorem dX2_over_7 : decode cX2_over 7 = .ok (.ifCond .ne 5, 3) := dk_154 0 5 (dk_at dksX2_over_0 7 rfl rfl)
theorem dX2_over_10 : decode cX2_over 10 = .ok (.iconst 3, 1) := dk_6 (dk_at dksX2_over_0 10 rfl rfl)
theorem dX2_over_11 : decode cX2_over 11 = .ok (.ireturn, 1) := dk_172 (dk_at dksX2_over_0 11 rfl rfl)
theorem dX2_over_12 : decode cX2_over 12 = .ok (.aload_n 0, 1) := dk_42 (dk_at dksX2_over_0 12 rfl rfl)
theorem dX2_over_13 : decode cX2_over 13 = .ok (.getfield 115, 3) := dk_180 0 115 (dk_at dksX2_over_0 13 rfl rfl)
theorem dX2_over_16 : decode cX2_over 16 = .ok (.ifCond .ne 7, 3) := dk_154 0 7 (dk_at dksX2_over_0 16 rfl rfl)
theorem dX2_over_19 : decode cX2_over 19 = .ok (.iconst 1, 1) := dk_4 (dk_at dksX2_over_0 19 rfl rfl)
theorem dX2_over_20 : decode cX2_over 20 = .ok (.goto 26, 3) := dk_167 0 26 (dk_at dksX2_over_0 20 rfl rfl)
theorem dX2_over_23 : decode cX2_over 23 = .ok (.aload_n 0, 1) := dk_42 (dk_at dksX2_over_0 23 rfl rfl)
theorem dX2_over_24 : decode cX2_over 24 = .ok (.invokevirtual 148, 3) := dk_182 0 148 (dk_at dksX2_over_1 0 rfl rfl)
theorem dX2_over_27 : decode cX2_over 27 = .ok (.ifCond .eq 7, 3) := dk_153 0 7 (dk_at dksX2_over_1 3 rfl rfl)
theorem dX2_over_30 : decode cX2_over 30 = .ok (.iconst 2, 1) := dk_5 (dk_at dksX2_over_1 6 rfl rfl)
theorem dX2_over_31 : decode cX2_over 31 = .ok (.goto 15, 3) := dk_167 0 15 (dk_at dksX2_over_1 7 rfl rfl)
theorem dX2_over_34 : decode cX2_over 34 = .ok (.aload_n 0, 1) := dk_42 (dk_at dksX2_over_1 10 rfl rfl)
theorem dX2_over_35 : decode cX2_over 35 = .ok (.getfield 60, 3) := dk_180 0 60 (dk_at dksX2_over_1 11 rfl rfl)
theorem dX2_over_38 : decode cX2_over 38 = .ok (.ifCond .ne 7, 3) := dk_154 0 7 (dk_at dksX2_over_1 14 rfl rfl)
theorem dX2_over_41 : decode cX2_over 41 = .ok (.iconst 3, 1) := dk_6 (dk_at dksX2_over_1 17 rfl rfl)
theorem dX2_over_42 : decode cX2_over 42 = .ok (.goto 4, 3) := dk_167 0 4 (dk_at dksX2_over_1 18 rfl rfl)
theorem dX2_over_45 : decode cX2_over 45 = .ok (.iconst 0, 1) := dk_3 (dk_at dksX2_over_1 21 rfl rfl)
theorem dX2_over_46 : decode cX2_over 46 = .ok (.ireturn, 1) := dk_172 (dk_at dksX2_over_1 22 rfl rfl)
def dkwX2_areWhole_1 : List UInt8 := [180, 0, 142, 162, 0, 5, 3, 172, 132, 1, 1, 167, 255, 224, 4, 172]
abbrev dktX2_areWhole_1 : List UInt8 := dkwX2_areWhole_1 ++ []
def dkwX2_areWhole_0 : List UInt8 := [3, 60, 27, 42, 180, 0, 43, 180, 0, 139, 162, 0, 27, 42, 180, 0, 27, 27, 46, 42, 180, 0, 43]
abbrev dktX2_areWhole_0 : List UInt8 := dkwX2_areWhole_0 ++ dktX2_areWhole_1
theorem dksX2_areWhole_0 : cX2_areWhole.data.toList.drop 0 = dktX2_areWhole_0 := by decide +kernel
theorem dksX2_areWhole_1 : cX2_areWhole.data.toList.drop 23 = dktX2_areWhole_1 := dk_seg dksX2_areWhole_0 23 rfl rfl
theorem dX2_areWhole_0 : decode cX2_areWhole 0 = .ok (.iconst 0, 1) := dk_3 (dk_at dksX2_areWhole_0 0 rfl rfl)
theorem dX2_areWhole_1 : decode cX2_areWhole 1 = .ok (.istore_n 1, 1) := dk_60 (dk_at dksX2_areWhole_0 1 rfl rfl)
theorem dX2_areWhole_2 : decode cX2_areWhole 2 = .ok (.iload_n 1, 1) := dk_27 (dk_at dksX2_areWhole_0 2 rfl rfl)
theorem dX2_areWhole_3 : decode cX2_areWhole 3 = .ok (.aload_n 0, 1) := dk_42 (dk_at dksX2_areWhole_0 3 rfl rfl)
theorem dX2_areWhole_4 : decode cX2_areWhole 4 = .ok (.getfield 43, 3) := dk_180 0 43 (dk_at dksX2_areWhole_0 4 rfl rfl)
theorem dX2_areWhole_7 : decode cX2_areWhole 7 = .ok (.getfield 139, 3) := dk_180 0 139 (dk_at dksX2_areWhole_0 7 rfl rfl)
theorem dX2_areWhole_10 : decode cX2_areWhole 10 = .ok (.if_icmp .ge 27, 3) := dk_162 0 27 (dk_at dksX2_areWhole_0 10 rfl rfl)
theorem dX2_areWhole_13 : decode cX2_areWhole 13 = .ok (.aload_n 0, 1) := dk_42 (dk_at dksX2_areWhole_0 13 rfl rfl)
theorem dX2_areWhole_14 : decode cX2_areWhole 14 = .ok (.getfield 27, 3) := dk_180 0 27 (dk_at dksX2_areWhole_0 14 rfl rfl)
theorem dX2_areWhole_17 : decode cX2_areWhole 17 = .ok (.iload_n 1, 1) := dk_27 (dk_at dksX2_areWhole_0 17 rfl rfl)
theorem dX2_areWhole_18 : decode cX2_areWhole 18 = .ok (.iaload, 1) := dk_46 (dk_at dksX2_areWhole_0 18 rfl rfl)
theorem dX2_areWhole_19 : decode cX2_areWhole 19 = .ok (.aload_n 0, 1) := dk_42 (dk_at dksX2_areWhole_0 19 rfl rfl)
theorem dX2_areWhole_20 : decode cX2_areWhole 20 = .ok (.getfield 43, 3) := dk_180 0 43 (dk_at dksX2_areWhole_0 20 rfl rfl)
theorem dX2_areWhole_23 : decode cX2_areWhole 23 = .ok (.getfield 142, 3) := dk_180 0 142 (dk_at dksX2_areWhole_1 0 rfl rfl)
theorem dX2_areWhole_26 : decode cX2_areWhole 26 = .ok (.if_icmp .ge 5, 3) := dk_162 0 5 (dk_at dksX2_areWhole_1 3 rfl rfl)
theorem dX2_areWhole_29 : decode cX2_areWhole 29 = .ok (.iconst 0, 1) := dk_3 (dk_at dksX2_areWhole_1 6 rfl rfl)
theorem dX2_areWhole_30 : decode cX2_areWhole 30 = .ok (.ireturn, 1) := dk_172 (dk_at dksX2_areWhole_1 7 rfl rfl)
theorem dX2_areWhole_31 : decode cX2_areWhole 31 = .ok (.iinc 1 1, 3) := dk_132 1 1 (dk_at dksX2_areWhole_1 8 rfl rfl)
theorem dX2_areWhole_34 : decode cX2_areWhole 34 = .ok (.goto (-32), 3) := dk_167 255 224 (dk_at dksX2_areWhole_1 11 rfl rfl)
theorem dX2_areWhole_37 : decode cX2_areWhole 37 = .ok (.iconst 1, 1) := dk_4 (dk_at dksX2_areWhole_1 14 rfl rfl)
theorem dX2_areWhole_38 : decode cX2_areWhole 38 = .ok (.ireturn, 1) := dk_172 (dk_at dksX2_areWhole_1 15 rfl rfl)
def dkwX2_own_0 : List UInt8 := [42, 180, 0, 14, 42, 180, 0, 118, 185, 0, 76, 2, 0, 192, 0, 20, 176]
abbrev dktX2_own_0 : List UInt8 := dkwX2_own_0 ++ []
theorem dksX2_own_0 : cX2_own.data.toList.drop 0 = dktX2_own_0 := by decide +kernel
theorem dX2_own_0 : decode cX2_own 0 = .ok (.aload_n 0, 1) := dk_42 (dk_at dksX2_own_0 0 rfl rfl)
theorem dX2_own_1 : decode cX2_own 1 = .ok (.getfield 14, 3) := dk_180 0 14 (dk_at dksX2_own_0 1 rfl rfl)
theorem dX2_own_4 : decode cX2_own 4 = .ok (.aload_n 0, 1) := dk_42 (dk_at dksX2_own_0 4 rfl rfl)
theorem dX2_own_5 : decode cX2_own 5 = .ok (.getfield 118, 3) := dk_180 0 118 (dk_at dksX2_own_0 5 rfl rfl)
theorem dX2_own_8 : decode cX2_own 8 = .ok (.invokeinterface 76 2, 5) := by decide +kernel
theorem dX2_own_13 : decode cX2_own 13 = .ok (.checkcast 20, 3) := dk_192 0 20 (dk_at dksX2_own_0 13 rfl rfl)
theorem dX2_own_16 : decode cX2_own 16 = .ok (.areturn, 1) := dk_176 (dk_at dksX2_own_0 16 rfl rfl)
def dkwX2_copy_12 : List UInt8 := [181, 0, 118, 43, 42, 180, 0, 121, 181, 0, 121, 43, 42, 180, 0, 60, 181, 0, 60, 43, 176]
abbrev dktX2_copy_12 : List UInt8 := dkwX2_copy_12 ++ []
def dkwX2_copy_11 : List UInt8 := [181, 0, 110, 43, 42, 180, 0, 112, 181, 0, 112, 43, 42, 180, 0, 115, 181, 0, 115, 43, 42, 180, 0, 118]
abbrev dktX2_copy_11 : List UInt8 := dkwX2_copy_11 ++ dktX2_copy_12
def dkwX2_copy_10 : List UInt8 := [180, 0, 40, 4, 42, 180, 0, 40, 4, 50, 182, 0, 52, 192, 0, 39, 83, 43, 42, 180, 0, 110]
abbrev dktX2_copy_10 : List UInt8 := dkwX2_copy_10 ++ dktX2_copy_11
def dkwX2_copy_9 : List UInt8 := [167, 255, 230, 43, 180, 0, 40, 3, 42, 180, 0, 40, 3, 50, 182, 0, 52, 192, 0, 39, 83, 43]
abbrev dktX2_copy_9 : List UInt8 := dkwX2_copy_9 ++ dktX2_copy_10
def dkwX2_copy_8 : List UInt8 := [162, 0, 27, 43, 180, 0, 36, 28, 42, 180, 0, 36, 28, 50, 182, 0, 52, 192, 0, 39, 83, 132, 2, 1]
abbrev dktX2_copy_8 : List UInt8 := dkwX2_copy_8 ++ dktX2_copy_9
def dkwX2_copy_7 : List UInt8 := [42, 180, 0, 31, 3, 43, 180, 0, 31, 3, 42, 180, 0, 31, 190, 184, 0, 104, 3, 61, 28, 7]
abbrev dktX2_copy_7 : List UInt8 := dkwX2_copy_7 ++ dktX2_copy_8
def dkwX2_copy_6 : List UInt8 := [180, 0, 23, 45, 182, 0, 100, 167, 255, 229, 42, 180, 0, 27, 3, 43, 180, 0, 27, 3, 7, 184, 0, 104]
abbrev dktX2_copy_6 : List UInt8 := dkwX2_copy_6 ++ dktX2_copy_7
def dkwX2_copy_5 : List UInt8 := [182, 0, 80, 77, 44, 185, 0, 84, 1, 0, 153, 0, 24, 44, 185, 0, 90, 1, 0, 192, 0, 39, 78, 43]
abbrev dktX2_copy_5 : List UInt8 := dkwX2_copy_5 ++ dktX2_copy_6
def dkwX2_copy_4 : List UInt8 := [25, 4, 182, 0, 95, 182, 0, 99, 87, 167, 255, 214, 132, 2, 1, 167, 255, 161, 42, 180, 0, 23]
abbrev dktX2_copy_4 : List UInt8 := dkwX2_copy_4 ++ dktX2_copy_5
def dkwX2_copy_3 : List UInt8 := [185, 0, 90, 1, 0, 192, 0, 93, 58, 4, 43, 180, 0, 14, 28, 185, 0, 76, 2, 0, 192, 0, 20]
abbrev dktX2_copy_3 : List UInt8 := dkwX2_copy_3 ++ dktX2_copy_4
def dkwX2_copy_2 : List UInt8 := [28, 185, 0, 76, 2, 0, 192, 0, 20, 182, 0, 80, 78, 45, 185, 0, 84, 1, 0, 153, 0, 39, 45]
abbrev dktX2_copy_2 : List UInt8 := dkwX2_copy_2 ++ dktX2_copy_3
def dkwX2_copy_1 : List UInt8 := [162, 0, 88, 43, 180, 0, 14, 187, 0, 20, 89, 183, 0, 22, 185, 0, 72, 2, 0, 87, 42, 180, 0, 14]
abbrev dktX2_copy_1 : List UInt8 := dkwX2_copy_1 ++ dktX2_copy_2
def dkwX2_copy_0 : List UInt8 := [187, 0, 15, 89, 42, 180, 0, 43, 183, 0, 63, 76, 3, 61, 28, 42, 180, 0, 14, 185, 0, 66, 1, 0]
abbrev dktX2_copy_0 : List UInt8 := dkwX2_copy_0 ++ dktX2_copy_1
theorem dksX2_copy_0 : cX2_copy.data.toList.drop 0 = dktX2_copy_0 := by decide +kernel
theorem dksX2_copy_1 : cX2_copy.data.toList.drop 24 = dktX2_copy_1 := dk_seg dksX2_copy_0 24 rfl rfl
theorem dksX2_copy_2 : cX2_copy.data.toList.drop 48 = dktX2_copy_2 := dk_seg dksX2_copy_1 24 rfl rfl
theorem dksX2_copy_3 : cX2_copy.data.toList.drop 71 = dktX2_copy_3 := dk_seg dksX2_copy_2 23 rfl rfl
theorem dksX2_copy_4 : cX2_copy.data.toList.drop 94 = dktX2_copy_4 := dk_seg dksX2_copy_3 23 rfl rfl
theorem dksX2_copy_5 : cX2_copy.data.toList.drop 116 = dktX2_copy_5 := dk_seg dksX2_copy_4 22 rfl rfl
theorem dksX2_copy_6 : cX2_copy.data.toList.drop 140 = dktX2_copy_6 := dk_seg dksX2_copy_5 24 rfl rfl
theorem dksX2_copy_7 : cX2_copy.data.toList.drop 164 = dktX2_copy_7 := dk_seg dksX2_copy_6 24 rfl rfl
theorem dksX2_copy_8 : cX2_copy.data.toList.drop 186 = dktX2_copy_8 := dk_seg dksX2_copy_7 22 rfl rfl
theorem dksX2_copy_9 : cX2_copy.data.toList.drop 210 = dktX2_copy_9 := dk_seg dksX2_copy_8 24 rfl rfl
theorem dksX2_copy_10 : cX2_copy.data.toList.drop 232 = dktX2_copy_10 := dk_seg dksX2_copy_9 22 rfl rfl
theorem dksX2_copy_11 : cX2_copy.data.toList.drop 254 = dktX2_copy_11 := dk_seg dksX2_copy_10 22 rfl rfl
theorem dksX2_copy_12 : cX2_copy.data.toList.drop 278 = dktX2_copy_12 := dk_seg dksX2_copy_11 24 rfl rfl
theorem dX2_copy_0 : decode cX2_copy 0 = .ok (.new 15, 3) := dk_187 0 15 (dk_at dksX2_copy_0 0 rfl rfl)
theorem dX2_copy_3 : decode cX2_copy 3 = .ok (.dup, 1) := dk_89 (dk_at dksX2_copy_0 3 rfl rfl)
theorem dX2_copy_4 : decode cX2_copy 4 = .ok (.aload_n 0, 1) := dk_42 (dk_at dksX2_copy_0 4 rfl rfl)
theorem dX2_copy_5 : decode cX2_copy 5 = .ok (.getfield 43, 3) := dk_180 0 43 (dk_at dksX2_copy_0 5 rfl rfl)
theorem dX2_copy_8 : decode cX2_copy 8 = .ok (.invokespecial 63, 3) := dk_183 0 63 (dk_at dksX2_copy_0 8 rfl rfl)
theorem dX2_copy_11 : decode cX2_copy 11 = .ok (.astore_n 1, 1) := dk_76 (dk_at dksX2_copy_0 11 rfl rfl)
theorem dX2_copy_12 : decode cX2_copy 12 = .ok (.iconst 0, 1) := dk_3 (dk_at dksX2_copy_0 12 rfl rfl)
theorem dX2_copy_13 : decode cX2_copy 13 = .ok (.istore_n 2, 1) := dk_61 (dk_at dksX2_copy_0 13 rfl rfl)
theorem dX2_copy_14 : decode cX2_copy 14 = .ok (.iload_n 2, 1) := dk_28 (dk_at dksX2_copy_0 14 rfl rfl)
theorem dX2_copy_15 : decode cX2_copy 15 = .ok (.aload_n 0, 1) := dk_42 (dk_at dksX2_copy_0 15 rfl rfl)
theorem dX2_copy_16 : decode cX2_copy 16 = .ok (.getfield 14, 3) := dk_180 0 14 (dk_at dksX2_copy_0 16 rfl rfl)
theorem dX2_copy_19 : decode cX2_copy 19 = .ok (.invokeinterface 66 1, 5) := by decide +kernel
theorem dX2_copy_24 : decode cX2_copy 24 = .ok (.if_icmp .ge 88, 3) := dk_162 0 88 (dk_at dksX2_copy_1 0 rfl rfl)
theorem dX2_copy_27 : decode cX2_copy 27 = .ok (.aload_n 1, 1) := dk_43 (dk_at dksX2_copy_1 3 rfl rfl)
theorem dX2_copy_28 : decode cX2_copy 28 = .ok (.getfield 14, 3) := dk_180 0 14 (dk_at dksX2_copy_1 4 rfl rfl)
theorem dX2_copy_31 : decode cX2_copy 31 = .ok (.new 20, 3) := dk_187 0 20 (dk_at dksX2_copy_1 7 rfl rfl)
theorem dX2_copy_34 : decode cX2_copy 34 = .ok (.dup, 1) := dk_89 (dk_at dksX2_copy_1 10 rfl rfl)
theorem dX2_copy_35 : decode cX2_copy 35 = .ok (.invokespecial 22, 3) := dk_183 0 22 (dk_at dksX2_copy_1 11 rfl rfl)
theorem dX2_copy_38 : decode cX2_copy 38 = .ok (.invokeinterface 72 2, 5) := by decide +kernel
theorem dX2_copy_43 : decode cX2_copy 43 = .ok (.pop, 1) := dk_87 (dk_at dksX2_copy_1 19 rfl rfl)
theorem dX2_copy_44 : decode cX2_copy 44 = .ok (.aload_n 0, 1) := dk_42 (dk_at dksX2_copy_1 20 rfl rfl)
theorem dX2_copy_45 : decode cX2_copy 45 = .ok (.getfield 14, 3) := dk_180 0 14 (dk_at dksX2_copy_1 21 rfl rfl)
theorem dX2_copy_48 : decode cX2_copy 48 = .ok (.iload_n 2, 1) := dk_28 (dk_at dksX2_copy_2 0 rfl rfl)
theorem dX2_copy_49 : decode cX2_copy 49 = .ok (.invokeinterface 76 2, 5) := by decide +kernel
theorem dX2_copy_54 : decode cX2_copy 54 = .ok (.checkcast 20, 3) := dk_192 0 20 (dk_at dksX2_copy_2 6 rfl rfl)
theorem dX2_copy_57 : decode cX2_copy 57 = .ok (.invokevirtual 80, 3) := dk_182 0 80 (dk_at dksX2_copy_2 9 rfl rfl)
theorem dX2_copy_60 : decode cX2_copy 60 = .ok (.astore_n 3, 1) := dk_78 (dk_at dksX2_copy_2 12 rfl rfl)
theorem dX2_copy_61 : decode cX2_copy 61 = .ok (.aload_n 3, 1) := dk_45 (dk_at dksX2_copy_2 13 rfl rfl)
theorem dX2_copy_62 : decode cX2_copy 62 = .ok (.invokeinterface 84 1, 5) := by decide +kernel
theorem dX2_copy_67 : decode cX2_copy 67 = .ok (.ifCond .eq 39, 3) := dk_153 0 39 (dk_at dksX2_copy_2 19 rfl rfl)
theorem dX2_copy_70 : decode cX2_copy 70 = .ok (.aload_n 3, 1) := dk_45 (dk_at dksX2_copy_2 22 rfl rfl)
theorem dX2_copy_71 : decode cX2_copy 71 = .ok (.invokeinterface 90 1, 5) := by decide +kernel
theorem dX2_copy_76 : decode cX2_copy 76 = .ok (.checkcast 93, 3) := dk_192 0 93 (dk_at dksX2_copy_3 5 rfl rfl)
theorem dX2_copy_79 : decode cX2_copy 79 = .ok (.astore 4, 2) := dk_58 4 (dk_at dksX2_copy_3 8 rfl rfl)
theorem dX2_copy_81 : decode cX2_copy 81 = .ok (.aload_n 1, 1) := dk_43 (dk_at dksX2_copy_3 10 rfl rfl)
theorem dX2_copy_82 : decode cX2_copy 82 = .ok (.getfield 14, 3) := dk_180 0 14 (dk_at dksX2_copy_3 11 rfl rfl)
theorem dX2_copy_85 : decode cX2_copy 85 = .ok (.iload_n 2, 1) := dk_28 (dk_at dksX2_copy_3 14 rfl rfl)
theorem dX2_copy_86 : decode cX2_copy 86 = .ok (.invokeinterface 76 2, 5) := by decide +kernel
theorem dX2_copy_91 : decode cX2_copy 91 = .ok (.checkcast 20, 3) := dk_192 0 20 (dk_at dksX2_copy_3 20 rfl rfl)
theorem dX2_copy_94 : decode cX2_copy 94 = .ok (.aload 4, 2) := dk_25 4 (dk_at dksX2_copy_4 0 rfl rfl)
theorem dX2_copy_96 : decode cX2_copy 96 = .ok (.invokevirtual 95, 3) := dk_182 0 95 (dk_at dksX2_copy_4 2 rfl rfl)
theorem dX2_copy_99 : decode cX2_copy 99 = .ok (.invokevirtual 99, 3) := dk_182 0 99 (dk_at dksX2_copy_4 5 rfl rfl)
theorem dX2_copy_102 : decode cX2_copy 102 = .ok (.pop, 1) := dk_87 (dk_at dksX2_copy_4 8 rfl rfl)
theorem dX2_copy_103 : decode cX2_copy 103 = .ok (.goto (-42), 3) := dk_167 255 214 (dk_at dksX2_copy_4 9 rfl rfl)
theorem dX2_copy_106 : decode cX2_copy 106 = .ok (.iinc 2 1, 3) := dk_132 2 1 (dk_at dksX2_copy_4 12 rfl rfl)
theorem dX2_copy_109 : decode cX2_copy 109 = .ok (.goto (-95), 3) := dk_167 255 161 (dk_at dksX2_copy_4 15 rfl rfl)
theorem dX2_copy_112 : decode cX2_copy 112 = .ok (.aload_n 0, 1) := dk_42 (dk_at dksX2_copy_4 18 rfl rfl)
theorem dX2_copy_113 : decode cX2_copy 113 = .ok (.getfield 23, 3) := dk_180 0 23 (dk_at dksX2_copy_4 19 rfl rfl)
theorem dX2_copy_116 : decode cX2_copy 116 = .ok (.invokevirtual 80, 3) := dk_182 0 80 (dk_at dksX2_copy_5 0 rfl rfl)
theorem dX2_copy_119 : decode cX2_copy 119 = .ok (.astore_n 2, 1) := dk_77 (dk_at dksX2_copy_5 3 rfl rfl)
theorem dX2_copy_120 : decode cX2_copy 120 = .ok (.aload_n 2, 1) := dk_44 (dk_at dksX2_copy_5 4 rfl rfl)
theorem dX2_copy_121 : decode cX2_copy 121 = .ok (.invokeinterface 84 1, 5) := by decide +kernel
theorem dX2_copy_126 : decode cX2_copy 126 = .ok (.ifCond .eq 24, 3) := dk_153 0 24 (dk_at dksX2_copy_5 10 rfl rfl)
theorem dX2_copy_129 : decode cX2_copy 129 = .ok (.aload_n 2, 1) := dk_44 (dk_at dksX2_copy_5 13 rfl rfl)
theorem dX2_copy_130 : decode cX2_copy 130 = .ok (.invokeinterface 90 1, 5) := by decide +kernel
theorem dX2_copy_135 : decode cX2_copy 135 = .ok (.checkcast 39, 3) := dk_192 0 39 (dk_at dksX2_copy_5 19 rfl rfl)
theorem dX2_copy_138 : decode cX2_copy 138 = .ok (.astore_n 3, 1) := dk_78 (dk_at dksX2_copy_5 22 rfl rfl)
theorem dX2_copy_139 : decode cX2_copy 139 = .ok (.aload_n 1, 1) := dk_43 (dk_at dksX2_copy_5 23 rfl rfl)
theorem dX2_copy_140 : decode cX2_copy 140 = .ok (.getfield 23, 3) := dk_180 0 23 (dk_at dksX2_copy_6 0 rfl rfl)
theorem dX2_copy_143 : decode cX2_copy 143 = .ok (.aload_n 3, 1) := dk_45 (dk_at dksX2_copy_6 3 rfl rfl)
theorem dX2_copy_144 : decode cX2_copy 144 = .ok (.invokevirtual 100, 3) := dk_182 0 100 (dk_at dksX2_copy_6 4 rfl rfl)
theorem dX2_copy_147 : decode cX2_copy 147 = .ok (.goto (-27), 3) := dk_167 255 229 (dk_at dksX2_copy_6 7 rfl rfl)
theorem dX2_copy_150 : decode cX2_copy 150 = .ok (.aload_n 0, 1) := dk_42 (dk_at dksX2_copy_6 10 rfl rfl)
theorem dX2_copy_151 : decode cX2_copy 151 = .ok (.getfield 27, 3) := dk_180 0 27 (dk_at dksX2_copy_6 11 rfl rfl)
theorem dX2_copy_154 : decode cX2_copy 154 = .ok (.iconst 0, 1) := dk_3 (dk_at dksX2_copy_6 14 rfl rfl)
theorem dX2_copy_155 : decode cX2_copy 155 = .ok (.aload_n 1, 1) := dk_43 (dk_at dksX2_copy_6 15 rfl rfl)
theorem dX2_copy_156 : decode cX2_copy 156 = .ok (.getfield 27, 3) := dk_180 0 27 (dk_at dksX2_copy_6 16 rfl rfl)
theorem dX2_copy_159 : decode cX2_copy 159 = .ok (.iconst 0, 1) := dk_3 (dk_at dksX2_copy_6 19 rfl rfl)
theorem dX2_copy_160 : decode cX2_copy 160 = .ok (.iconst 4, 1) := dk_7 (dk_at dksX2_copy_6 20 rfl rfl)
theorem dX2_copy_161 : decode cX2_copy 161 = .ok (.invokestatic 104, 3) := dk_184 0 104 (dk_at dksX2_copy_6 21 rfl rfl)
theorem dX2_copy_164 : decode cX2_copy 164 = .ok (.aload_n 0, 1) := dk_42 (dk_at dksX2_copy_7 0 rfl rfl)
theorem dX2_copy_165 : decode cX2_copy 165 = .ok (.getfield 31, 3) := dk_180 0 31 (dk_at dksX2_copy_7 1 rfl rfl)
theorem dX2_copy_168 : decode cX2_copy 168 = .ok (.iconst 0, 1) := dk_3 (dk_at dksX2_copy_7 4 rfl rfl)
theorem dX2_copy_169 : decode cX2_copy 169 = .ok (.aload_n 1, 1) := dk_43 (dk_at dksX2_copy_7 5 rfl rfl)
theorem dX2_copy_170 : decode cX2_copy 170 = .ok (.getfield 31, 3) := dk_180 0 31 (dk_at dksX2_copy_7 6 rfl rfl)
theorem dX2_copy_173 : decode cX2_copy 173 = .ok (.iconst 0, 1) := dk_3 (dk_at dksX2_copy_7 9 rfl rfl)
theorem dX2_copy_174 : decode cX2_copy 174 = .ok (.aload_n 0, 1) := dk_42 (dk_at dksX2_copy_7 10 rfl rfl)
theorem dX2_copy_175 : decode cX2_copy 175 = .ok (.getfield 31, 3) := dk_180 0 31 (dk_at dksX2_copy_7 11 rfl rfl)
theorem dX2_copy_178 : decode cX2_copy 178 = .ok (.arraylength, 1) := dk_190 (dk_at dksX2_copy_7 14 rfl rfl)
theorem dX2_copy_179 : decode cX2_copy 179 = .ok (.invokestatic 104, 3) := dk_184 0 104 (dk_at dksX2_copy_7 15 rfl rfl)
theorem dX2_copy_182 : decode cX2_copy 182 = .ok (.iconst 0, 1) := dk_3 (dk_at dksX2_copy_7 18 rfl rfl)
theorem dX2_copy_183 : decode cX2_copy 183 = .ok (.istore_n 2, 1) := dk_61 (dk_at dksX2_copy_7 19 rfl rfl)
theorem dX2_copy_184 : decode cX2_copy 184 = .ok (.iload_n 2, 1) := dk_28 (dk_at dksX2_copy_7 20 rfl rfl)
theorem dX2_copy_185 : decode cX2_copy 185 = .ok (.iconst 4, 1) := dk_7 (dk_at dksX2_copy_7 21 rfl rfl)
theorem dX2_copy_186 : decode cX2_copy 186 = .ok (.if_icmp .ge 27, 3) := dk_162 0 27 (dk_at dksX2_copy_8 0 rfl rfl)
theorem dX2_copy_189 : decode cX2_copy 189 = .ok (.aload_n 1, 1) := dk_43 (dk_at dksX2_copy_8 3 rfl rfl)
theorem dX2_copy_190 : decode cX2_copy 190 = .ok (.getfield 36, 3) := dk_180 0 36 (dk_at dksX2_copy_8 4 rfl rfl)
theorem dX2_copy_193 : decode cX2_copy 193 = .ok (.iload_n 2, 1) := dk_28 (dk_at dksX2_copy_8 7 rfl rfl)
theorem dX2_copy_194 : decode cX2_copy 194 = .ok (.aload_n 0, 1) := dk_42 (dk_at dksX2_copy_8 8 rfl rfl)
theorem dX2_copy_195 : decode cX2_copy 195 = .ok (.getfield 36, 3) := dk_180 0 36 (dk_at dksX2_copy_8 9 rfl rfl)
theorem dX2_copy_198 : decode cX2_copy 198 = .ok (.iload_n 2, 1) := dk_28 (dk_at dksX2_copy_8 12 rfl rfl)
theorem dX2_copy_199 : decode cX2_copy 199 = .ok (.aaload, 1) := dk_50 (dk_at dksX2_copy_8 13 rfl rfl)
theorem dX2_copy_200 : decode cX2_copy 200 = .ok (.invokevirtual 52, 3) := dk_182 0 52 (dk_at dksX2_copy_8 14 rfl rfl)
theorem dX2_copy_203 : decode cX2_copy 203 = .ok (.checkcast 39, 3) := dk_192 0 39 (dk_at dksX2_copy_8 17 rfl rfl)
theorem dX2_copy_206 : decode cX2_copy 206 = .ok (.aastore, 1) := dk_83 (dk_at dksX2_copy_8 20 rfl rfl)
theorem dX2_copy_207 : decode cX2_copy 207 = .ok (.iinc 2 1, 3) := dk_132 2 1 (dk_at dksX2_copy_8 21 rfl rfl)
theorem dX2_copy_210 : decode cX2_copy 210 = .ok (.goto (-26), 3) := dk_167 255 230 (dk_at dksX2_copy_9 0 rfl rfl)
theorem dX2_copy_213 : decode cX2_copy 213 = .ok (.aload_n 1, 1) := dk_43 (dk_at dksX2_copy_9 3 rfl rfl)
theorem dX2_copy_214 : decode cX2_copy 214 = .ok (.getfield 40, 3) := dk_180 0 40 (dk_at dksX2_copy_9 4 rfl rfl)
theorem dX2_copy_217 : decode cX2_copy 217 = .ok (.iconst 0, 1) := dk_3 (dk_at dksX2_copy_9 7 rfl rfl)
theorem dX2_copy_218 : decode cX2_copy 218 = .ok (.aload_n 0, 1) := dk_42 (dk_at dksX2_copy_9 8 rfl rfl)
theorem dX2_copy_219 : decode cX2_copy 219 = .ok (.getfield 40, 3) := dk_180 0 40 (dk_at dksX2_copy_9 9 rfl rfl)
theorem dX2_copy_222 : decode cX2_copy 222 = .ok (.iconst 0, 1) := dk_3 (dk_at dksX2_copy_9 12 rfl rfl)
theorem dX2_copy_223 : decode cX2_copy 223 = .ok (.aaload, 1) := dk_50 (dk_at dksX2_copy_9 13 rfl rfl)
theorem dX2_copy_224 : decode cX2_copy 224 = .ok (.invokevirtual 52, 3) := dk_182 0 52 (dk_at dksX2_copy_9 14 rfl rfl)
theorem dX2_copy_227 : decode cX2_copy 227 = .ok (.checkcast 39, 3) := dk_192 0 39 (dk_at dksX2_copy_9 17 rfl rfl)
theorem dX2_copy_230 : decode cX2_copy 230 = .ok (.aastore, 1) := dk_83 (dk_at dksX2_copy_9 20 rfl rfl)
theorem dX2_copy_231 : decode cX2_copy 231 = .ok (.aload_n 1, 1) := dk_43 (dk_at dksX2_copy_9 21 rfl rfl)
theorem dX2_copy_232 : decode cX2_copy 232 = .ok (.getfield 40, 3) := dk_180 0 40 (dk_at dksX2_copy_10 0 rfl rfl)
theorem dX2_copy_235 : decode cX2_copy 235 = .ok (.iconst 1, 1) := dk_4 (dk_at dksX2_copy_10 3 rfl rfl)
theorem dX2_copy_236 : decode cX2_copy 236 = .ok (.aload_n 0, 1) := dk_42 (dk_at dksX2_copy_10 4 rfl rfl)
theorem dX2_copy_237 : decode cX2_copy 237 = .ok (.getfield 40, 3) := dk_180 0 40 (dk_at dksX2_copy_10 5 rfl rfl)
theorem dX2_copy_240 : decode cX2_copy 240 = .ok (.iconst 1, 1) := dk_4 (dk_at dksX2_copy_10 8 rfl rfl)
theorem dX2_copy_241 : decode cX2_copy 241 = .ok (.aaload, 1) := dk_50 (dk_at dksX2_copy_10 9 rfl rfl)
theorem dX2_copy_242 : decode cX2_copy 242 = .ok (.invokevirtual 52, 3) := dk_182 0 52 (dk_at dksX2_copy_10 10 rfl rfl)
theorem dX2_copy_245 : decode cX2_copy 245 = .ok (.checkcast 39, 3) := dk_192 0 39 (dk_at dksX2_copy_10 13 rfl rfl)
theorem dX2_copy_248 : decode cX2_copy 248 = .ok (.aastore, 1) := dk_83 (dk_at dksX2_copy_10 16 rfl rfl)
theorem dX2_copy_249 : decode cX2_copy 249 = .ok (.aload_n 1, 1) := dk_43 (dk_at dksX2_copy_10 17 rfl rfl)
theorem dX2_copy_250 : decode cX2_copy 250 = .ok (.aload_n 0, 1) := dk_42 (dk_at dksX2_copy_10 18 rfl rfl)
theorem dX2_copy_251 : decode cX2_copy 251 = .ok (.getfield 110, 3) := dk_180 0 110 (dk_at dksX2_copy_10 19 rfl rfl)
theorem dX2_copy_254 : decode cX2_copy 254 = .ok (.putfield 110, 3) := dk_181 0 110 (dk_at dksX2_copy_11 0 rfl rfl)
theorem dX2_copy_257 : decode cX2_copy 257 = .ok (.aload_n 1, 1) := dk_43 (dk_at dksX2_copy_11 3 rfl rfl)
theorem dX2_copy_258 : decode cX2_copy 258 = .ok (.aload_n 0, 1) := dk_42 (dk_at dksX2_copy_11 4 rfl rfl)
theorem dX2_copy_259 : decode cX2_copy 259 = .ok (.getfield 112, 3) := dk_180 0 112 (dk_at dksX2_copy_11 5 rfl rfl)
theorem dX2_copy_262 : decode cX2_copy 262 = .ok (.putfield 112, 3) := dk_181 0 112 (dk_at dksX2_copy_11 8 rfl rfl)
theorem dX2_copy_265 : decode cX2_copy 265 = .ok (.aload_n 1, 1) := dk_43 (dk_at dksX2_copy_11 11 rfl rfl)
theorem dX2_copy_266 : decode cX2_copy 266 = .ok (.aload_n 0, 1) := dk_42 (dk_at dksX2_copy_11 12 rfl rfl)
theorem dX2_copy_267 : decode cX2_copy 267 = .ok (.getfield 115, 3) := dk_180 0 115 (dk_at dksX2_copy_11 13 rfl rfl)
theorem dX2_copy_270 : decode cX2_copy 270 = .ok (.putfield 115, 3) := dk_181 0 115 (dk_at dksX2_copy_11 16 rfl rfl)
theorem dX2_copy_273 : decode cX2_copy 273 = .ok (.aload_n 1, 1) := dk_43 (dk_at dksX2_copy_11 19 rfl rfl)
theorem dX2_copy_274 : decode cX2_copy 274 = .ok (.aload_n 0, 1) := dk_42 (dk_at dksX2_copy_11 20 rfl rfl)
theorem dX2_copy_275 : decode cX2_copy 275 = .ok (.getfield 118, 3) := dk_180 0 118 (dk_at dksX2_copy_11 21 rfl rfl)
theorem dX2_copy_278 : decode cX2_copy 278 = .ok (.putfield 118, 3) := dk_181 0 118 (dk_at dksX2_copy_12 0 rfl rfl)
theorem dX2_copy_281 : decode cX2_copy 281 = .ok (.aload_n 1, 1) := dk_43 (dk_at dksX2_copy_12 3 rfl rfl)
theorem dX2_copy_282 : decode cX2_copy 282 = .ok (.aload_n 0, 1) := dk_42 (dk_at dksX2_copy_12 4 rfl rfl)
theorem dX2_copy_283 : decode cX2_copy 283 = .ok (.getfield 121, 3) := dk_180 0 121 (dk_at dksX2_copy_12 5 rfl rfl)
theorem dX2_copy_286 : decode cX2_copy 286 = .ok (.putfield 121, 3) := dk_181 0 121 (dk_at dksX2_copy_12 8 rfl rfl)
theorem dX2_copy_289 : decode cX2_copy 289 = .ok (.aload_n 1, 1) := dk_43 (dk_at dksX2_copy_12 11 rfl rfl)
theorem dX2_copy_290 : decode cX2_copy 290 = .ok (.aload_n 0, 1) := dk_42 (dk_at dksX2_copy_12 12 rfl rfl)
theorem dX2_copy_291 : decode cX2_copy 291 = .ok (.getfield 60, 3) := dk_180 0 60 (dk_at dksX2_copy_12 13 rfl rfl)
theorem dX2_copy_294 : decode cX2_copy 294 = .ok (.putfield 60, 3) := dk_181 0 60 (dk_at dksX2_copy_12 16 rfl rfl)
theorem dX2_copy_297 : decode cX2_copy 297 = .ok (.aload_n 1, 1) := dk_43 (dk_at dksX2_copy_12 19 rfl rfl)
theorem dX2_copy_298 : decode cX2_copy 298 = .ok (.areturn, 1) := dk_176 (dk_at dksX2_copy_12 20 rfl rfl)
def dkwX2_pass_0 : List UInt8 := [42, 6, 2, 2, 3, 182, 0, 211, 177]
abbrev dktX2_pass_0 : List UInt8 := dkwX2_pass_0 ++ []
theorem dksX2_pass_0 : cX2_pass.data.toList.drop 0 = dktX2_pass_0 := by decide +kernel
theorem dX2_pass_0 : decode cX2_pass 0 = .ok (.aload_n 0, 1) := dk_42 (dk_at dksX2_pass_0 0 rfl rfl)
theorem dX2_pass_1 : decode cX2_pass 1 = .ok (.iconst 3, 1) := dk_6 (dk_at dksX2_pass_0 1 rfl rfl)
theorem dX2_pass_2 : decode cX2_pass 2 = .ok (.iconst (-1), 1) := dk_2 (dk_at dksX2_pass_0 2 rfl rfl)
theorem dX2_pass_3 : decode cX2_pass 3 = .ok (.iconst (-1), 1) := dk_2 (dk_at dksX2_pass_0 3 rfl rfl)
theorem dX2_pass_4 : decode cX2_pass 4 = .ok (.iconst 0, 1) := dk_3 (dk_at dksX2_pass_0 4 rfl rfl)
theorem dX2_pass_5 : decode cX2_pass 5 = .ok (.invokevirtual 211, 3) := dk_182 0 211 (dk_at dksX2_pass_0 5 rfl rfl)
theorem dX2_pass_8 : decode cX2_pass 8 = .ok (.return_, 1) := dk_177 (dk_at dksX2_pass_0 8 rfl rfl)
def dkwX2_ends_6 : List UInt8 := [180, 0, 43, 180, 0, 56, 112, 181, 0, 118, 42, 89, 180, 0, 121, 4, 96, 181, 0, 121, 177]
abbrev dktX2_ends_6 : List UInt8 := dkwX2_ends_6 ++ []
def dkwX2_ends_5 : List UInt8 := [160, 0, 14, 42, 42, 180, 0, 43, 180, 0, 56, 181, 0, 60, 42, 42, 180, 0, 118, 4, 96, 42]
abbrev dktX2_ends_5 : List UInt8 := dkwX2_ends_5 ++ dktX2_ends_6
def dkwX2_ends_4 : List UInt8 := [181, 0, 60, 167, 0, 33, 42, 180, 0, 110, 42, 180, 0, 43, 180, 0, 134, 185, 0, 66, 1, 0]
abbrev dktX2_ends_4 : List UInt8 := dkwX2_ends_4 ++ dktX2_ends_5
def dkwX2_ends_3 : List UInt8 := [153, 0, 11, 42, 42, 180, 0, 118, 182, 0, 131, 21, 5, 153, 0, 16, 42, 89, 180, 0, 60, 4, 100]
abbrev dktX2_ends_3 : List UInt8 := dkwX2_ends_3 ++ dktX2_ends_4
def dkwX2_ends_2 : List UInt8 := [29, 79, 182, 0, 100, 42, 180, 0, 60, 2, 159, 0, 7, 4, 167, 0, 4, 3, 54, 5, 21, 4]
abbrev dktX2_ends_2 : List UInt8 := dkwX2_ends_2 ++ dktX2_ends_3
def dkwX2_ends_1 : List UInt8 := [42, 180, 0, 23, 7, 188, 10, 89, 3, 42, 180, 0, 118, 79, 89, 4, 27, 79, 89, 5, 28, 79, 89, 6]
abbrev dktX2_ends_1 : List UInt8 := dkwX2_ends_1 ++ dktX2_ends_2
def dkwX2_ends_0 : List UInt8 := [42, 180, 0, 23, 182, 0, 166, 16, 30, 160, 0, 15, 42, 180, 0, 23, 182, 0, 188, 192, 0, 39, 58, 5]
abbrev dktX2_ends_0 : List UInt8 := dkwX2_ends_0 ++ dktX2_ends_1
theorem dksX2_ends_0 : cX2_ends.data.toList.drop 0 = dktX2_ends_0 := by decide +kernel
theorem dksX2_ends_1 : cX2_ends.data.toList.drop 24 = dktX2_ends_1 := dk_seg dksX2_ends_0 24 rfl rfl
theorem dksX2_ends_2 : cX2_ends.data.toList.drop 48 = dktX2_ends_2 := dk_seg dksX2_ends_1 24 rfl rfl
theorem dksX2_ends_3 : cX2_ends.data.toList.drop 70 = dktX2_ends_3 := dk_seg dksX2_ends_2 22 rfl rfl
theorem dksX2_ends_4 : cX2_ends.data.toList.drop 93 = dktX2_ends_4 := dk_seg dksX2_ends_3 23 rfl rfl
theorem dksX2_ends_5 : cX2_ends.data.toList.drop 115 = dktX2_ends_5 := dk_seg dksX2_ends_4 22 rfl rfl
theorem dksX2_ends_6 : cX2_ends.data.toList.drop 137 = dktX2_ends_6 := dk_seg dksX2_ends_5 22 rfl rfl
theorem dX2_ends_0 : decode cX2_ends 0 = .ok (.aload_n 0, 1) := dk_42 (dk_at dksX2_ends_0 0 rfl rfl)
theorem dX2_ends_1 : decode cX2_ends 1 = .ok (.getfield 23, 3) := dk_180 0 23 (dk_at dksX2_ends_0 1 rfl rfl)
theorem dX2_ends_4 : decode cX2_ends 4 = .ok (.invokevirtual 166, 3) := dk_182 0 166 (dk_at dksX2_ends_0 4 rfl rfl)
theorem dX2_ends_7 : decode cX2_ends 7 = .ok (.bipush 30, 2) := dk_16 30 (dk_at dksX2_ends_0 7 rfl rfl)
theorem dX2_ends_9 : decode cX2_ends 9 = .ok (.if_icmp .ne 15, 3) := dk_160 0 15 (dk_at dksX2_ends_0 9 rfl rfl)
theorem dX2_ends_12 : decode cX2_ends 12 = .ok (.aload_n 0, 1) := dk_42 (dk_at dksX2_ends_0 12 rfl rfl)
theorem dX2_ends_13 : decode cX2_ends 13 = .ok (.getfield 23, 3) := dk_180 0 23 (dk_at dksX2_ends_0 13 rfl rfl)
theorem dX2_ends_16 : decode cX2_ends 16 = .ok (.invokevirtual 188, 3) := dk_182 0 188 (dk_at dksX2_ends_0 16 rfl rfl)
theorem dX2_ends_19 : decode cX2_ends 19 = .ok (.checkcast 39, 3) := dk_192 0 39 (dk_at dksX2_ends_0 19 rfl rfl)
theorem dX2_ends_22 : decode cX2_ends 22 = .ok (.astore 5, 2) := dk_58 5 (dk_at dksX2_ends_0 22 rfl rfl)
theorem dX2_ends_24 : decode cX2_ends 24 = .ok (.aload_n 0, 1) := dk_42 (dk_at dksX2_ends_1 0 rfl rfl)
theorem dX2_ends_25 : decode cX2_ends 25 = .ok (.getfield 23, 3) := dk_180 0 23 (dk_at dksX2_ends_1 1 rfl rfl)
theorem dX2_ends_28 : decode cX2_ends 28 = .ok (.iconst 4, 1) := dk_7 (dk_at dksX2_ends_1 4 rfl rfl)
theorem dX2_ends_29 : decode cX2_ends 29 = .ok (.newarray .int, 2) := dk_188_10 (dk_at dksX2_ends_1 5 rfl rfl)
theorem dX2_ends_31 : decode cX2_ends 31 = .ok (.dup, 1) := dk_89 (dk_at dksX2_ends_1 7 rfl rfl)
theorem dX2_ends_32 : decode cX2_ends 32 = .ok (.iconst 0, 1) := dk_3 (dk_at dksX2_ends_1 8 rfl rfl)
theorem dX2_ends_33 : decode cX2_ends 33 = .ok (.aload_n 0, 1) := dk_42 (dk_at dksX2_ends_1 9 rfl rfl)
theorem dX2_ends_34 : decode cX2_ends 34 = .ok (.getfield 118, 3) := dk_180 0 118 (dk_at dksX2_ends_1 10 rfl rfl)
theorem dX2_ends_37 : decode cX2_ends 37 = .ok (.iastore, 1) := dk_79 (dk_at dksX2_ends_1 13 rfl rfl)
theorem dX2_ends_38 : decode cX2_ends 38 = .ok (.dup, 1) := dk_89 (dk_at dksX2_ends_1 14 rfl rfl)
theorem dX2_ends_39 : decode cX2_ends 39 = .ok (.iconst 1, 1) := dk_4 (dk_at dksX2_ends_1 15 rfl rfl)
theorem dX2_ends_40 : decode cX2_ends 40 = .ok (.iload_n 1, 1) := dk_27 (dk_at dksX2_ends_1 16 rfl rfl)
theorem dX2_ends_41 : decode cX2_ends 41 = .ok (.iastore, 1) := dk_79 (dk_at dksX2_ends_1 17 rfl rfl)
theorem dX2_ends_42 : decode cX2_ends 42 = .ok (.dup, 1) := dk_89 (dk_at dksX2_ends_1 18 rfl rfl)
theorem dX2_ends_43 : decode cX2_ends 43 = .ok (.iconst 2, 1) := dk_5 (dk_at dksX2_ends_1 19 rfl rfl)
theorem dX2_ends_44 : decode cX2_ends 44 = .ok (.iload_n 2, 1) := dk_28 (dk_at dksX2_ends_1 20 rfl rfl)
theorem dX2_ends_45 : decode cX2_ends 45 = .ok (.iastore, 1) := dk_79 (dk_at dksX2_ends_1 21 rfl rfl)
theorem dX2_ends_46 : decode cX2_ends 46 = .ok (.dup, 1) := dk_89 (dk_at dksX2_ends_1 22 rfl rfl)
theorem dX2_ends_47 : decode cX2_ends 47 = .ok (.iconst 3, 1) := dk_6 (dk_at dksX2_ends_1 23 rfl rfl)
theorem dX2_ends_48 : decode cX2_ends 48 = .ok (.iload_n 3, 1) := dk_29 (dk_at dksX2_ends_2 0 rfl rfl)
theorem dX2_ends_49 : decode cX2_ends 49 = .ok (.iastore, 1) := dk_79 (dk_at dksX2_ends_2 1 rfl rfl)
theorem dX2_ends_50 : decode cX2_ends 50 = .ok (.invokevirtual 100, 3) := dk_182 0 100 (dk_at dksX2_ends_2 2 rfl rfl)
theorem dX2_ends_53 : decode cX2_ends 53 = .ok (.aload_n 0, 1) := dk_42 (dk_at dksX2_ends_2 5 rfl rfl)
theorem dX2_ends_54 : decode cX2_ends 54 = .ok (.getfield 60, 3) := dk_180 0 60 (dk_at dksX2_ends_2 6 rfl rfl)
theorem dX2_ends_57 : decode cX2_ends 57 = .ok (.iconst (-1), 1) := dk_2 (dk_at dksX2_ends_2 9 rfl rfl)
theorem dX2_ends_58 : decode cX2_ends 58 = .ok (.if_icmp .eq 7, 3) := dk_159 0 7 (dk_at dksX2_ends_2 10 rfl rfl)
theorem dX2_ends_61 : decode cX2_ends 61 = .ok (.iconst 1, 1) := dk_4 (dk_at dksX2_ends_2 13 rfl rfl)
theorem dX2_ends_62 : decode cX2_ends 62 = .ok (.goto 4, 3) := dk_167 0 4 (dk_at dksX2_ends_2 14 rfl rfl)
theorem dX2_ends_65 : decode cX2_ends 65 = .ok (.iconst 0, 1) := dk_3 (dk_at dksX2_ends_2 17 rfl rfl)
theorem dX2_ends_66 : decode cX2_ends 66 = .ok (.istore 5, 2) := dk_54 5 (dk_at dksX2_ends_2 18 rfl rfl)
theorem dX2_ends_68 : decode cX2_ends 68 = .ok (.iload 4, 2) := dk_21 4 (dk_at dksX2_ends_2 20 rfl rfl)
theorem dX2_ends_70 : decode cX2_ends 70 = .ok (.ifCond .eq 11, 3) := dk_153 0 11 (dk_at dksX2_ends_3 0 rfl rfl)
theorem dX2_ends_73 : decode cX2_ends 73 = .ok (.aload_n 0, 1) := dk_42 (dk_at dksX2_ends_3 3 rfl rfl)
theorem dX2_ends_74 : decode cX2_ends 74 = .ok (.aload_n 0, 1) := dk_42 (dk_at dksX2_ends_3 4 rfl rfl)
theorem dX2_ends_75 : decode cX2_ends 75 = .ok (.getfield 118, 3) := dk_180 0 118 (dk_at dksX2_ends_3 5 rfl rfl)
theorem dX2_ends_78 : decode cX2_ends 78 = .ok (.invokevirtual 131, 3) := dk_182 0 131 (dk_at dksX2_ends_3 8 rfl rfl)
theorem dX2_ends_81 : decode cX2_ends 81 = .ok (.iload 5, 2) := dk_21 5 (dk_at dksX2_ends_3 11 rfl rfl)
theorem dX2_ends_83 : decode cX2_ends 83 = .ok (.ifCond .eq 16, 3) := dk_153 0 16 (dk_at dksX2_ends_3 13 rfl rfl)
theorem dX2_ends_86 : decode cX2_ends 86 = .ok (.aload_n 0, 1) := dk_42 (dk_at dksX2_ends_3 16 rfl rfl)
theorem dX2_ends_87 : decode cX2_ends 87 = .ok (.dup, 1) := dk_89 (dk_at dksX2_ends_3 17 rfl rfl)
theorem dX2_ends_88 : decode cX2_ends 88 = .ok (.getfield 60, 3) := dk_180 0 60 (dk_at dksX2_ends_3 18 rfl rfl)
theorem dX2_ends_91 : decode cX2_ends 91 = .ok (.iconst 1, 1) := dk_4 (dk_at dksX2_ends_3 21 rfl rfl)
theorem dX2_ends_92 : decode cX2_ends 92 = .ok (.isub, 1) := dk_100 (dk_at dksX2_ends_3 22 rfl rfl)
theorem dX2_ends_93 : decode cX2_ends 93 = .ok (.putfield 60, 3) := dk_181 0 60 (dk_at dksX2_ends_4 0 rfl rfl)
theorem dX2_ends_96 : decode cX2_ends 96 = .ok (.goto 33, 3) := dk_167 0 33 (dk_at dksX2_ends_4 3 rfl rfl)
theorem dX2_ends_99 : decode cX2_ends 99 = .ok (.aload_n 0, 1) := dk_42 (dk_at dksX2_ends_4 6 rfl rfl)
theorem dX2_ends_100 : decode cX2_ends 100 = .ok (.getfield 110, 3) := dk_180 0 110 (dk_at dksX2_ends_4 7 rfl rfl)
theorem dX2_ends_103 : decode cX2_ends 103 = .ok (.aload_n 0, 1) := dk_42 (dk_at dksX2_ends_4 10 rfl rfl)
theorem dX2_ends_104 : decode cX2_ends 104 = .ok (.getfield 43, 3) := dk_180 0 43 (dk_at dksX2_ends_4 11 rfl rfl)
theorem dX2_ends_107 : decode cX2_ends 107 = .ok (.getfield 134, 3) := dk_180 0 134 (dk_at dksX2_ends_4 14 rfl rfl)
theorem dX2_ends_110 : decode cX2_ends 110 = .ok (.invokeinterface 66 1, 5) := by decide +kernel
theorem dX2_ends_115 : decode cX2_ends 115 = .ok (.if_icmp .ne 14, 3) := dk_160 0 14 (dk_at dksX2_ends_5 0 rfl rfl)
theorem dX2_ends_118 : decode cX2_ends 118 = .ok (.aload_n 0, 1) := dk_42 (dk_at dksX2_ends_5 3 rfl rfl)
theorem dX2_ends_119 : decode cX2_ends 119 = .ok (.aload_n 0, 1) := dk_42 (dk_at dksX2_ends_5 4 rfl rfl)
theorem dX2_ends_120 : decode cX2_ends 120 = .ok (.getfield 43, 3) := dk_180 0 43 (dk_at dksX2_ends_5 5 rfl rfl)
theorem dX2_ends_123 : decode cX2_ends 123 = .ok (.getfield 56, 3) := dk_180 0 56 (dk_at dksX2_ends_5 8 rfl rfl)
theorem dX2_ends_126 : decode cX2_ends 126 = .ok (.putfield 60, 3) := dk_181 0 60 (dk_at dksX2_ends_5 11 rfl rfl)
theorem dX2_ends_129 : decode cX2_ends 129 = .ok (.aload_n 0, 1) := dk_42 (dk_at dksX2_ends_5 14 rfl rfl)
theorem dX2_ends_130 : decode cX2_ends 130 = .ok (.aload_n 0, 1) := dk_42 (dk_at dksX2_ends_5 15 rfl rfl)
theorem dX2_ends_131 : decode cX2_ends 131 = .ok (.getfield 118, 3) := dk_180 0 118 (dk_at dksX2_ends_5 16 rfl rfl)
theorem dX2_ends_134 : decode cX2_ends 134 = .ok (.iconst 1, 1) := dk_4 (dk_at dksX2_ends_5 19 rfl rfl)
theorem dX2_ends_135 : decode cX2_ends 135 = .ok (.iadd, 1) := dk_96 (dk_at dksX2_ends_5 20 rfl rfl)
theorem dX2_ends_136 : decode cX2_ends 136 = .ok (.aload_n 0, 1) := dk_42 (dk_at dksX2_ends_5 21 rfl rfl)
theorem dX2_ends_137 : decode cX2_ends 137 = .ok (.getfield 43, 3) := dk_180 0 43 (dk_at dksX2_ends_6 0 rfl rfl)
theorem dX2_ends_140 : decode cX2_ends 140 = .ok (.getfield 56, 3) := dk_180 0 56 (dk_at dksX2_ends_6 3 rfl rfl)
theorem dX2_ends_143 : decode cX2_ends 143 = .ok (.irem, 1) := dk_112 (dk_at dksX2_ends_6 6 rfl rfl)
theorem dX2_ends_144 : decode cX2_ends 144 = .ok (.putfield 118, 3) := dk_181 0 118 (dk_at dksX2_ends_6 7 rfl rfl)
theorem dX2_ends_147 : decode cX2_ends 147 = .ok (.aload_n 0, 1) := dk_42 (dk_at dksX2_ends_6 10 rfl rfl)
theorem dX2_ends_148 : decode cX2_ends 148 = .ok (.dup, 1) := dk_89 (dk_at dksX2_ends_6 11 rfl rfl)
theorem dX2_ends_149 : decode cX2_ends 149 = .ok (.getfield 121, 3) := dk_180 0 121 (dk_at dksX2_ends_6 12 rfl rfl)
theorem dX2_ends_152 : decode cX2_ends 152 = .ok (.iconst 1, 1) := dk_4 (dk_at dksX2_ends_6 15 rfl rfl)
theorem dX2_ends_153 : decode cX2_ends 153 = .ok (.iadd, 1) := dk_96 (dk_at dksX2_ends_6 16 rfl rfl)
theorem dX2_ends_154 : decode cX2_ends 154 = .ok (.putfield 121, 3) := dk_181 0 121 (dk_at dksX2_ends_6 17 rfl rfl)
theorem dX2_ends_157 : decode cX2_ends 157 = .ok (.return_, 1) := dk_177 (dk_at dksX2_ends_6 20 rfl rfl)
def dkwX2_canBe_2 : List UInt8 := [3, 172]
abbrev dktX2_canBe_2 : List UInt8 := dkwX2_canBe_2 ++ []
def dkwX2_canBe_1 : List UInt8 := [42, 28, 29, 27, 182, 0, 178, 96, 42, 180, 0, 43, 28, 29, 182, 0, 151, 162, 0, 7, 4, 167, 0, 4]
abbrev dktX2_canBe_1 : List UInt8 := dkwX2_canBe_1 ++ dktX2_canBe_2
def dkwX2_canBe_0 : List UInt8 := [42, 180, 0, 36, 28, 50, 29, 46, 42, 180, 0, 27, 28, 46, 29, 161, 0, 7, 4, 167, 0, 4, 3, 96]
abbrev dktX2_canBe_0 : List UInt8 := dkwX2_canBe_0 ++ dktX2_canBe_1
theorem dksX2_canBe_0 : cX2_canBe.data.toList.drop 0 = dktX2_canBe_0 := by decide +kernel
theorem dksX2_canBe_1 : cX2_canBe.data.toList.drop 24 = dktX2_canBe_1 := dk_seg dksX2_canBe_0 24 rfl rfl
theorem dksX2_canBe_2 : cX2_canBe.data.toList.drop 48 = dktX2_canBe_2 := dk_seg dksX2_canBe_1 24 rfl rfl
theorem dX2_canBe_0 : decode cX2_canBe 0 = .ok (.aload_n 0, 1) := dk_42 (dk_at dksX2_canBe_0 0 rfl rfl)
theorem dX2_canBe_1 : decode cX2_canBe 1 = .ok (.getfield 36, 3) := dk_180 0 36 (dk_at dksX2_canBe_0 1 rfl rfl)
theorem dX2_canBe_4 : decode cX2_canBe 4 = .ok (.iload_n 2, 1) := dk_28 (dk_at dksX2_canBe_0 4 rfl rfl)
theorem dX2_canBe_5 : decode cX2_canBe 5 = .ok (.aaload, 1) := dk_50 (dk_at dksX2_canBe_0 5 rfl rfl)
theorem dX2_canBe_6 : decode cX2_canBe 6 = .ok (.iload_n 3, 1) := dk_29 (dk_at dksX2_canBe_0 6 rfl rfl)
theorem dX2_canBe_7 : decode cX2_canBe 7 = .ok (.iaload, 1) := dk_46 (dk_at dksX2_canBe_0 7 rfl rfl)
theorem dX2_canBe_8 : decode cX2_canBe 8 = .ok (.aload_n 0, 1) := dk_42 (dk_at dksX2_canBe_0 8 rfl rfl)
theorem dX2_canBe_9 : decode cX2_canBe 9 = .ok (.getfield 27, 3) := dk_180 0 27 (dk_at dksX2_canBe_0 9 rfl rfl)
theorem dX2_canBe_12 : decode cX2_canBe 12 = .ok (.iload_n 2, 1) := dk_28 (dk_at dksX2_canBe_0 12 rfl rfl)
theorem dX2_canBe_13 : decode cX2_canBe 13 = .ok (.iaload, 1) := dk_46 (dk_at dksX2_canBe_0 13 rfl rfl)
theorem dX2_canBe_14 : decode cX2_canBe 14 = .ok (.iload_n 3, 1) := dk_29 (dk_at dksX2_canBe_0 14 rfl rfl)
theorem dX2_canBe_15 : decode cX2_canBe 15 = .ok (.if_icmp .lt 7, 3) := dk_161 0 7 (dk_at dksX2_canBe_0 15 rfl rfl)
theorem dX2_canBe_18 : decode cX2_canBe 18 = .ok (.iconst 1, 1) := dk_4 (dk_at dksX2_canBe_0 18 rfl rfl)
theorem dX2_canBe_19 : decode cX2_canBe 19 = .ok (.goto 4, 3) := dk_167 0 4 (dk_at dksX2_canBe_0 19 rfl rfl)
theorem dX2_canBe_22 : decode cX2_canBe 22 = .ok (.iconst 0, 1) := dk_3 (dk_at dksX2_canBe_0 22 rfl rfl)
theorem dX2_canBe_23 : decode cX2_canBe 23 = .ok (.iadd, 1) := dk_96 (dk_at dksX2_canBe_0 23 rfl rfl)
theorem dX2_canBe_24 : decode cX2_canBe 24 = .ok (.aload_n 0, 1) := dk_42 (dk_at dksX2_canBe_1 0 rfl rfl)
theorem dX2_canBe_25 : decode cX2_canBe 25 = .ok (.iload_n 2, 1) := dk_28 (dk_at dksX2_canBe_1 1 rfl rfl)
theorem dX2_canBe_26 : decode cX2_canBe 26 = .ok (.iload_n 3, 1) := dk_29 (dk_at dksX2_canBe_1 2 rfl rfl)
theorem dX2_canBe_27 : decode cX2_canBe 27 = .ok (.iload_n 1, 1) := dk_27 (dk_at dksX2_canBe_1 3 rfl rfl)
theorem dX2_canBe_28 : decode cX2_canBe 28 = .ok (.invokevirtual 178, 3) := dk_182 0 178 (dk_at dksX2_canBe_1 4 rfl rfl)
theorem dX2_canBe_31 : decode cX2_canBe 31 = .ok (.iadd, 1) := dk_96 (dk_at dksX2_canBe_1 7 rfl rfl)
theorem dX2_canBe_32 : decode cX2_canBe 32 = .ok (.aload_n 0, 1) := dk_42 (dk_at dksX2_canBe_1 8 rfl rfl)
theorem dX2_canBe_33 : decode cX2_canBe 33 = .ok (.getfield 43, 3) := dk_180 0 43 (dk_at dksX2_canBe_1 9 rfl rfl)
theorem dX2_canBe_36 : decode cX2_canBe 36 = .ok (.iload_n 2, 1) := dk_28 (dk_at dksX2_canBe_1 12 rfl rfl)
theorem dX2_canBe_37 : decode cX2_canBe 37 = .ok (.iload_n 3, 1) := dk_29 (dk_at dksX2_canBe_1 13 rfl rfl)
theorem dX2_canBe_38 : decode cX2_canBe 38 = .ok (.invokevirtual 151, 3) := dk_182 0 151 (dk_at dksX2_canBe_1 14 rfl rfl)
theorem dX2_canBe_41 : decode cX2_canBe 41 = .ok (.if_icmp .ge 7, 3) := dk_162 0 7 (dk_at dksX2_canBe_1 17 rfl rfl)
theorem dX2_canBe_44 : decode cX2_canBe 44 = .ok (.iconst 1, 1) := dk_4 (dk_at dksX2_canBe_1 20 rfl rfl)
theorem dX2_canBe_45 : decode cX2_canBe 45 = .ok (.goto 4, 3) := dk_167 0 4 (dk_at dksX2_canBe_1 21 rfl rfl)
theorem dX2_canBe_48 : decode cX2_canBe 48 = .ok (.iconst 0, 1) := dk_3 (dk_at dksX2_canBe_2 0 rfl rfl)
theorem dX2_canBe_49 : decode cX2_canBe 49 = .ok (.ireturn, 1) := dk_172 (dk_at dksX2_canBe_2 1 rfl rfl)
def dkwX2_inHands_5 : List UInt8 := [21, 4, 172]
abbrev dktX2_inHands_5 : List UInt8 := dkwX2_inHands_5 ++ []
def dkwX2_inHands_4 : List UInt8 := [28, 160, 0, 7, 4, 167, 0, 4, 3, 96, 54, 4, 132, 6, 1, 167, 255, 170, 132, 5, 1, 167, 255, 147]
abbrev dktX2_inHands_4 : List UInt8 := dkwX2_inHands_4 ++ dktX2_inHands_5
def dkwX2_inHands_3 : List UInt8 := [192, 0, 93, 180, 0, 168, 58, 7, 21, 4, 25, 7, 182, 0, 172, 27, 160, 0, 16, 25, 7, 182, 0, 175]
abbrev dktX2_inHands_3 : List UInt8 := dkwX2_inHands_3 ++ dktX2_inHands_4
def dkwX2_inHands_2 : List UInt8 := [29, 159, 0, 64, 42, 180, 0, 14, 21, 5, 185, 0, 76, 2, 0, 192, 0, 20, 21, 6, 182, 0, 167]
abbrev dktX2_inHands_2 : List UInt8 := dkwX2_inHands_2 ++ dktX2_inHands_3
def dkwX2_inHands_1 : List UInt8 := [21, 6, 42, 180, 0, 14, 21, 5, 185, 0, 76, 2, 0, 192, 0, 20, 182, 0, 166, 162, 0, 70, 21, 5]
abbrev dktX2_inHands_1 : List UInt8 := dkwX2_inHands_1 ++ dktX2_inHands_2
def dkwX2_inHands_0 : List UInt8 := [3, 54, 4, 3, 54, 5, 21, 5, 42, 180, 0, 14, 185, 0, 66, 1, 0, 162, 0, 101, 3, 54, 6]
abbrev dktX2_inHands_0 : List UInt8 := dkwX2_inHands_0 ++ dktX2_inHands_1
theorem dksX2_inHands_0 : cX2_inHands.data.toList.drop 0 = dktX2_inHands_0 := by decide +kernel
theorem dksX2_inHands_1 : cX2_inHands.data.toList.drop 23 = dktX2_inHands_1 := dk_seg dksX2_inHands_0 23 rfl rfl
theorem dksX2_inHands_2 : cX2_inHands.data.toList.drop 47 = dktX2_inHands_2 := dk_seg dksX2_inHands_1 24 rfl rfl
theorem dksX2_inHands_3 : cX2_inHands.data.toList.drop 70 = dktX2_inHands_3 := dk_seg dksX2_inHands_2 23 rfl rfl
theorem dksX2_inHands_4 : cX2_inHands.data.toList.drop 94 = dktX2_inHands_4 := dk_seg dksX2_inHands_3 24 rfl rfl
theorem dksX2_inHands_5 : cX2_inHands.data.toList.drop 118 = dktX2_inHands_5 := dk_seg dksX2_inHands_4 24 rfl rfl
theorem dX2_inHands_0 : decode cX2_inHands 0 = .ok (.iconst 0, 1) := dk_3 (dk_at dksX2_inHands_0 0 rfl rfl)
theorem dX2_inHands_1 : decode cX2_inHands 1 = .ok (.istore 4, 2) := dk_54 4 (dk_at dksX2_inHands_0 1 rfl rfl)
theorem dX2_inHands_3 : decode cX2_inHands 3 = .ok (.iconst 0, 1) := dk_3 (dk_at dksX2_inHands_0 3 rfl rfl)
theorem dX2_inHands_4 : decode cX2_inHands 4 = .ok (.istore 5, 2) := dk_54 5 (dk_at dksX2_inHands_0 4 rfl rfl)
theorem dX2_inHands_6 : decode cX2_inHands 6 = .ok (.iload 5, 2) := dk_21 5 (dk_at dksX2_inHands_0 6 rfl rfl)
theorem dX2_inHands_8 : decode cX2_inHands 8 = .ok (.aload_n 0, 1) := dk_42 (dk_at dksX2_inHands_0 8 rfl rfl)
theorem dX2_inHands_9 : decode cX2_inHands 9 = .ok (.getfield 14, 3) := dk_180 0 14 (dk_at dksX2_inHands_0 9 rfl rfl)
theorem dX2_inHands_12 : decode cX2_inHands 12 = .ok (.invokeinterface 66 1, 5) := by decide +kernel
theorem dX2_inHands_17 : decode cX2_inHands 17 = .ok (.if_icmp .ge 101, 3) := dk_162 0 101 (dk_at dksX2_inHands_0 17 rfl rfl)
theorem dX2_inHands_20 : decode cX2_inHands 20 = .ok (.iconst 0, 1) := dk_3 (dk_at dksX2_inHands_0 20 rfl rfl)
theorem dX2_inHands_21 : decode cX2_inHands 21 = .ok (.istore 6, 2) := dk_54 6 (dk_at dksX2_inHands_0 21 rfl rfl)
theorem dX2_inHands_23 : decode cX2_inHands 23 = .ok (.iload 6, 2) := dk_21 6 (dk_at dksX2_inHands_1 0 rfl rfl)
theorem dX2_inHands_25 : decode cX2_inHands 25 = .ok (.aload_n 0, 1) := dk_42 (dk_at dksX2_inHands_1 2 rfl rfl)
theorem dX2_inHands_26 : decode cX2_inHands 26 = .ok (.getfield 14, 3) := dk_180 0 14 (dk_at dksX2_inHands_1 3 rfl rfl)
theorem dX2_inHands_29 : decode cX2_inHands 29 = .ok (.iload 5, 2) := dk_21 5 (dk_at dksX2_inHands_1 6 rfl rfl)
theorem dX2_inHands_31 : decode cX2_inHands 31 = .ok (.invokeinterface 76 2, 5) := by decide +kernel
theorem dX2_inHands_36 : decode cX2_inHands 36 = .ok (.checkcast 20, 3) := dk_192 0 20 (dk_at dksX2_inHands_1 13 rfl rfl)
theorem dX2_inHands_39 : decode cX2_inHands 39 = .ok (.invokevirtual 166, 3) := dk_182 0 166 (dk_at dksX2_inHands_1 16 rfl rfl)
theorem dX2_inHands_42 : decode cX2_inHands 42 = .ok (.if_icmp .ge 70, 3) := dk_162 0 70 (dk_at dksX2_inHands_1 19 rfl rfl)
theorem dX2_inHands_45 : decode cX2_inHands 45 = .ok (.iload 5, 2) := dk_21 5 (dk_at dksX2_inHands_1 22 rfl rfl)
theorem dX2_inHands_47 : decode cX2_inHands 47 = .ok (.iload_n 3, 1) := dk_29 (dk_at dksX2_inHands_2 0 rfl rfl)
theorem dX2_inHands_48 : decode cX2_inHands 48 = .ok (.if_icmp .eq 64, 3) := dk_159 0 64 (dk_at dksX2_inHands_2 1 rfl rfl)
theorem dX2_inHands_51 : decode cX2_inHands 51 = .ok (.aload_n 0, 1) := dk_42 (dk_at dksX2_inHands_2 4 rfl rfl)
theorem dX2_inHands_52 : decode cX2_inHands 52 = .ok (.getfield 14, 3) := dk_180 0 14 (dk_at dksX2_inHands_2 5 rfl rfl)
theorem dX2_inHands_55 : decode cX2_inHands 55 = .ok (.iload 5, 2) := dk_21 5 (dk_at dksX2_inHands_2 8 rfl rfl)
theorem dX2_inHands_57 : decode cX2_inHands 57 = .ok (.invokeinterface 76 2, 5) := by decide +kernel
theorem dX2_inHands_62 : decode cX2_inHands 62 = .ok (.checkcast 20, 3) := dk_192 0 20 (dk_at dksX2_inHands_2 15 rfl rfl)
theorem dX2_inHands_65 : decode cX2_inHands 65 = .ok (.iload 6, 2) := dk_21 6 (dk_at dksX2_inHands_2 18 rfl rfl)
theorem dX2_inHands_67 : decode cX2_inHands 67 = .ok (.invokevirtual 167, 3) := dk_182 0 167 (dk_at dksX2_inHands_2 20 rfl rfl)
theorem dX2_inHands_70 : decode cX2_inHands 70 = .ok (.checkcast 93, 3) := dk_192 0 93 (dk_at dksX2_inHands_3 0 rfl rfl)
theorem dX2_inHands_73 : decode cX2_inHands 73 = .ok (.getfield 168, 3) := dk_180 0 168 (dk_at dksX2_inHands_3 3 rfl rfl)
theorem dX2_inHands_76 : decode cX2_inHands 76 = .ok (.astore 7, 2) := dk_58 7 (dk_at dksX2_inHands_3 6 rfl rfl)
theorem dX2_inHands_78 : decode cX2_inHands 78 = .ok (.iload 4, 2) := dk_21 4 (dk_at dksX2_inHands_3 8 rfl rfl)
theorem dX2_inHands_80 : decode cX2_inHands 80 = .ok (.aload 7, 2) := dk_25 7 (dk_at dksX2_inHands_3 10 rfl rfl)
theorem dX2_inHands_82 : decode cX2_inHands 82 = .ok (.invokevirtual 172, 3) := dk_182 0 172 (dk_at dksX2_inHands_3 12 rfl rfl)
theorem dX2_inHands_85 : decode cX2_inHands 85 = .ok (.iload_n 1, 1) := dk_27 (dk_at dksX2_inHands_3 15 rfl rfl)
theorem dX2_inHands_86 : decode cX2_inHands 86 = .ok (.if_icmp .ne 16, 3) := dk_160 0 16 (dk_at dksX2_inHands_3 16 rfl rfl)
theorem dX2_inHands_89 : decode cX2_inHands 89 = .ok (.aload 7, 2) := dk_25 7 (dk_at dksX2_inHands_3 19 rfl rfl)
theorem dX2_inHands_91 : decode cX2_inHands 91 = .ok (.invokevirtual 175, 3) := dk_182 0 175 (dk_at dksX2_inHands_3 21 rfl rfl)
theorem dX2_inHands_94 : decode cX2_inHands 94 = .ok (.iload_n 2, 1) := dk_28 (dk_at dksX2_inHands_4 0 rfl rfl)
theorem dX2_inHands_95 : decode cX2_inHands 95 = .ok (.if_icmp .ne 7, 3) := dk_160 0 7 (dk_at dksX2_inHands_4 1 rfl rfl)
theorem dX2_inHands_98 : decode cX2_inHands 98 = .ok (.iconst 1, 1) := dk_4 (dk_at dksX2_inHands_4 4 rfl rfl)
theorem dX2_inHands_99 : decode cX2_inHands 99 = .ok (.goto 4, 3) := dk_167 0 4 (dk_at dksX2_inHands_4 5 rfl rfl)
theorem dX2_inHands_102 : decode cX2_inHands 102 = .ok (.iconst 0, 1) := dk_3 (dk_at dksX2_inHands_4 8 rfl rfl)
theorem dX2_inHands_103 : decode cX2_inHands 103 = .ok (.iadd, 1) := dk_96 (dk_at dksX2_inHands_4 9 rfl rfl)
theorem dX2_inHands_104 : decode cX2_inHands 104 = .ok (.istore 4, 2) := dk_54 4 (dk_at dksX2_inHands_4 10 rfl rfl)
theorem dX2_inHands_106 : decode cX2_inHands 106 = .ok (.iinc 6 1, 3) := dk_132 6 1 (dk_at dksX2_inHands_4 12 rfl rfl)
theorem dX2_inHands_109 : decode cX2_inHands 109 = .ok (.goto (-86), 3) := dk_167 255 170 (dk_at dksX2_inHands_4 15 rfl rfl)
theorem dX2_inHands_112 : decode cX2_inHands 112 = .ok (.iinc 5 1, 3) := dk_132 5 1 (dk_at dksX2_inHands_4 18 rfl rfl)
theorem dX2_inHands_115 : decode cX2_inHands 115 = .ok (.goto (-109), 3) := dk_167 255 147 (dk_at dksX2_inHands_4 21 rfl rfl)
theorem dX2_inHands_118 : decode cX2_inHands 118 = .ok (.iload 4, 2) := dk_21 4 (dk_at dksX2_inHands_5 0 rfl rfl)
theorem dX2_inHands_120 : decode cX2_inHands 120 = .ok (.ireturn, 1) := dk_172 (dk_at dksX2_inHands_5 2 rfl rfl)
def dkwX2_canPlay_0 : List UInt8 := [42, 180, 0, 27, 27, 46, 4, 96, 28, 160, 0, 7, 4, 167, 0, 4, 3, 172]
abbrev dktX2_canPlay_0 : List UInt8 := dkwX2_canPlay_0 ++ []
theorem dksX2_canPlay_0 : cX2_canPlay.data.toList.drop 0 = dktX2_canPlay_0 := by decide +kernel
theorem dX2_canPlay_0 : decode cX2_canPlay 0 = .ok (.aload_n 0, 1) := dk_42 (dk_at dksX2_canPlay_0 0 rfl rfl)
theorem dX2_canPlay_1 : decode cX2_canPlay 1 = .ok (.getfield 27, 3) := dk_180 0 27 (dk_at dksX2_canPlay_0 1 rfl rfl)
theorem dX2_canPlay_4 : decode cX2_canPlay 4 = .ok (.iload_n 1, 1) := dk_27 (dk_at dksX2_canPlay_0 4 rfl rfl)
theorem dX2_canPlay_5 : decode cX2_canPlay 5 = .ok (.iaload, 1) := dk_46 (dk_at dksX2_canPlay_0 5 rfl rfl)
theorem dX2_canPlay_6 : decode cX2_canPlay 6 = .ok (.iconst 1, 1) := dk_4 (dk_at dksX2_canPlay_0 6 rfl rfl)
theorem dX2_canPlay_7 : decode cX2_canPlay 7 = .ok (.iadd, 1) := dk_96 (dk_at dksX2_canPlay_0 7 rfl rfl)
theorem dX2_canPlay_8 : decode cX2_canPlay 8 = .ok (.iload_n 2, 1) := dk_28 (dk_at dksX2_canPlay_0 8 rfl rfl)
theorem dX2_canPlay_9 : decode cX2_canPlay 9 = .ok (.if_icmp .ne 7, 3) := dk_160 0 7 (dk_at dksX2_canPlay_0 9 rfl rfl)
theorem dX2_canPlay_12 : decode cX2_canPlay 12 = .ok (.iconst 1, 1) := dk_4 (dk_at dksX2_canPlay_0 12 rfl rfl)
theorem dX2_canPlay_13 : decode cX2_canPlay 13 = .ok (.goto 4, 3) := dk_167 0 4 (dk_at dksX2_canPlay_0 13 rfl rfl)
theorem dX2_canPlay_16 : decode cX2_canPlay 16 = .ok (.iconst 0, 1) := dk_3 (dk_at dksX2_canPlay_0 16 rfl rfl)
theorem dX2_canPlay_17 : decode cX2_canPlay 17 = .ok (.ireturn, 1) := dk_172 (dk_at dksX2_canPlay_0 17 rfl rfl)
def dkwX2_isUseless_1 : List UInt8 := [172]
abbrev dktX2_isUseless_1 : List UInt8 := dkwX2_isUseless_1 ++ []
def dkwX2_isUseless_0 : List UInt8 := [28, 42, 180, 0, 27, 27, 46, 164, 0, 12, 28, 42, 27, 182, 0, 159, 164, 0, 7, 4, 167, 0, 4, 3]
abbrev dktX2_isUseless_0 : List UInt8 := dkwX2_isUseless_0 ++ dktX2_isUseless_1
theorem dksX2_isUseless_0 : cX2_isUseless.data.toList.drop 0 = dktX2_isUseless_0 := by decide +kernel
theorem dksX2_isUseless_1 : cX2_isUseless.data.toList.drop 24 = dktX2_isUseless_1 := dk_seg dksX2_isUseless_0 24 rfl rfl
theorem dX2_isUseless_0 : decode cX2_isUseless 0 = .ok (.iload_n 2, 1) := dk_28 (dk_at dksX2_isUseless_0 0 rfl rfl)
theorem dX2_isUseless_1 : decode cX2_isUseless 1 = .ok (.aload_n 0, 1) := dk_42 (dk_at dksX2_isUseless_0 1 rfl rfl)
theorem dX2_isUseless_2 : decode cX2_isUseless 2 = .ok (.getfield 27, 3) := dk_180 0 27 (dk_at dksX2_isUseless_0 2 rfl rfl)
theorem dX2_isUseless_5 : decode cX2_isUseless 5 = .ok (.iload_n 1, 1) := dk_27 (dk_at dksX2_isUseless_0 5 rfl rfl)
theorem dX2_isUseless_6 : decode cX2_isUseless 6 = .ok (.iaload, 1) := dk_46 (dk_at dksX2_isUseless_0 6 rfl rfl)
theorem dX2_isUseless_7 : decode cX2_isUseless 7 = .ok (.if_icmp .le 12, 3) := dk_164 0 12 (dk_at dksX2_isUseless_0 7 rfl rfl)
theorem dX2_isUseless_10 : decode cX2_isUseless 10 = .ok (.iload_n 2, 1) := dk_28 (dk_at dksX2_isUseless_0 10 rfl rfl)
theorem dX2_isUseless_11 : decode cX2_isUseless 11 = .ok (.aload_n 0, 1) := dk_42 (dk_at dksX2_isUseless_0 11 rfl rfl)
theorem dX2_isUseless_12 : decode cX2_isUseless 12 = .ok (.iload_n 1, 1) := dk_27 (dk_at dksX2_isUseless_0 12 rfl rfl)
theorem dX2_isUseless_13 : decode cX2_isUseless 13 = .ok (.invokevirtual 159, 3) := dk_182 0 159 (dk_at dksX2_isUseless_0 13 rfl rfl)
theorem dX2_isUseless_16 : decode cX2_isUseless 16 = .ok (.if_icmp .le 7, 3) := dk_164 0 7 (dk_at dksX2_isUseless_0 16 rfl rfl)
theorem dX2_isUseless_19 : decode cX2_isUseless 19 = .ok (.iconst 1, 1) := dk_4 (dk_at dksX2_isUseless_0 19 rfl rfl)
theorem dX2_isUseless_20 : decode cX2_isUseless 20 = .ok (.goto 4, 3) := dk_167 0 4 (dk_at dksX2_isUseless_0 20 rfl rfl)
theorem dX2_isUseless_23 : decode cX2_isUseless 23 = .ok (.iconst 0, 1) := dk_3 (dk_at dksX2_isUseless_0 23 rfl rfl)
theorem dX2_isUseless_24 : decode cX2_isUseless 24 = .ok (.ireturn, 1) := dk_172 (dk_at dksX2_isUseless_1 0 rfl rfl)
def dkwX2_reach_1 : List UInt8 := [182, 0, 155, 154, 0, 9, 132, 2, 1, 167, 255, 231, 28, 172]
abbrev dktX2_reach_1 : List UInt8 := dkwX2_reach_1 ++ []
def dkwX2_reach_0 : List UInt8 := [42, 180, 0, 27, 27, 46, 61, 28, 42, 180, 0, 43, 180, 0, 142, 162, 0, 20, 42, 27, 28, 4, 96]
abbrev dktX2_reach_0 : List UInt8 := dkwX2_reach_0 ++ dktX2_reach_1
theorem dksX2_reach_0 : cX2_reach.data.toList.drop 0 = dktX2_reach_0 := by decide +kernel
theorem dksX2_reach_1 : cX2_reach.data.toList.drop 23 = dktX2_reach_1 := dk_seg dksX2_reach_0 23 rfl rfl
theorem dX2_reach_0 : decode cX2_reach 0 = .ok (.aload_n 0, 1) := dk_42 (dk_at dksX2_reach_0 0 rfl rfl)
theorem dX2_reach_1 : decode cX2_reach 1 = .ok (.getfield 27, 3) := dk_180 0 27 (dk_at dksX2_reach_0 1 rfl rfl)
theorem dX2_reach_4 : decode cX2_reach 4 = .ok (.iload_n 1, 1) := dk_27 (dk_at dksX2_reach_0 4 rfl rfl)
theorem dX2_reach_5 : decode cX2_reach 5 = .ok (.iaload, 1) := dk_46 (dk_at dksX2_reach_0 5 rfl rfl)
theorem dX2_reach_6 : decode cX2_reach 6 = .ok (.istore_n 2, 1) := dk_61 (dk_at dksX2_reach_0 6 rfl rfl)
theorem dX2_reach_7 : decode cX2_reach 7 = .ok (.iload_n 2, 1) := dk_28 (dk_at dksX2_reach_0 7 rfl rfl)
theorem dX2_reach_8 : decode cX2_reach 8 = .ok (.aload_n 0, 1) := dk_42 (dk_at dksX2_reach_0 8 rfl rfl)
theorem dX2_reach_9 : decode cX2_reach 9 = .ok (.getfield 43, 3) := dk_180 0 43 (dk_at dksX2_reach_0 9 rfl rfl)
theorem dX2_reach_12 : decode cX2_reach 12 = .ok (.getfield 142, 3) := dk_180 0 142 (dk_at dksX2_reach_0 12 rfl rfl)
theorem dX2_reach_15 : decode cX2_reach 15 = .ok (.if_icmp .ge 20, 3) := dk_162 0 20 (dk_at dksX2_reach_0 15 rfl rfl)
theorem dX2_reach_18 : decode cX2_reach 18 = .ok (.aload_n 0, 1) := dk_42 (dk_at dksX2_reach_0 18 rfl rfl)
theorem dX2_reach_19 : decode cX2_reach 19 = .ok (.iload_n 1, 1) := dk_27 (dk_at dksX2_reach_0 19 rfl rfl)
theorem dX2_reach_20 : decode cX2_reach 20 = .ok (.iload_n 2, 1) := dk_28 (dk_at dksX2_reach_0 20 rfl rfl)
theorem dX2_reach_21 : decode cX2_reach 21 = .ok (.iconst 1, 1) := dk_4 (dk_at dksX2_reach_0 21 rfl rfl)
theorem dX2_reach_22 : decode cX2_reach 22 = .ok (.iadd, 1) := dk_96 (dk_at dksX2_reach_0 22 rfl rfl)
theorem dX2_reach_23 : decode cX2_reach 23 = .ok (.invokevirtual 155, 3) := dk_182 0 155 (dk_at dksX2_reach_1 0 rfl rfl)
theorem dX2_reach_26 : decode cX2_reach 26 = .ok (.ifCond .ne 9, 3) := dk_154 0 9 (dk_at dksX2_reach_1 3 rfl rfl)
theorem dX2_reach_29 : decode cX2_reach 29 = .ok (.iinc 2 1, 3) := dk_132 2 1 (dk_at dksX2_reach_1 6 rfl rfl)
theorem dX2_reach_32 : decode cX2_reach 32 = .ok (.goto (-25), 3) := dk_167 255 231 (dk_at dksX2_reach_1 9 rfl rfl)
theorem dX2_reach_35 : decode cX2_reach 35 = .ok (.iload_n 2, 1) := dk_28 (dk_at dksX2_reach_1 12 rfl rfl)
theorem dX2_reach_36 : decode cX2_reach 36 = .ok (.ireturn, 1) := dk_172 (dk_at dksX2_reach_1 13 rfl rfl)
def dkwX2_isGone_1 : List UInt8 := [3, 172]
abbrev dktX2_isGone_1 : List UInt8 := dkwX2_isGone_1 ++ []
def dkwX2_isGone_0 : List UInt8 := [42, 180, 0, 36, 27, 50, 28, 46, 42, 180, 0, 43, 27, 28, 182, 0, 151, 160, 0, 7, 4, 167, 0, 4]
abbrev dktX2_isGone_0 : List UInt8 := dkwX2_isGone_0 ++ dktX2_isGone_1
theorem dksX2_isGone_0 : cX2_isGone.data.toList.drop 0 = dktX2_isGone_0 := by decide +kernel
theorem dksX2_isGone_1 : cX2_isGone.data.toList.drop 24 = dktX2_isGone_1 := dk_seg dksX2_isGone_0 24 rfl rfl
theorem dX2_isGone_0 : decode cX2_isGone 0 = .ok (.aload_n 0, 1) := dk_42 (dk_at dksX2_isGone_0 0 rfl rfl)
theorem dX2_isGone_1 : decode cX2_isGone 1 = .ok (.getfield 36, 3) := dk_180 0 36 (dk_at dksX2_isGone_0 1 rfl rfl)
theorem dX2_isGone_4 : decode cX2_isGone 4 = .ok (.iload_n 1, 1) := dk_27 (dk_at dksX2_isGone_0 4 rfl rfl)
theorem dX2_isGone_5 : decode cX2_isGone 5 = .ok (.aaload, 1) := dk_50 (dk_at dksX2_isGone_0 5 rfl rfl)
theorem dX2_isGone_6 : decode cX2_isGone 6 = .ok (.iload_n 2, 1) := dk_28 (dk_at dksX2_isGone_0 6 rfl rfl)
theorem dX2_isGone_7 : decode cX2_isGone 7 = .ok (.iaload, 1) := dk_46 (dk_at dksX2_isGone_0 7 rfl rfl)
theorem dX2_isGone_8 : decode cX2_isGone 8 = .ok (.aload_n 0, 1) := dk_42 (dk_at dksX2_isGone_0 8 rfl rfl)
theorem dX2_isGone_9 : decode cX2_isGone 9 = .ok (.getfield 43, 3) := dk_180 0 43 (dk_at dksX2_isGone_0 9 rfl rfl)
theorem dX2_isGone_12 : decode cX2_isGone 12 = .ok (.iload_n 1, 1) := dk_27 (dk_at dksX2_isGone_0 12 rfl rfl)
theorem dX2_isGone_13 : decode cX2_isGone 13 = .ok (.iload_n 2, 1) := dk_28 (dk_at dksX2_isGone_0 13 rfl rfl)
theorem dX2_isGone_14 : decode cX2_isGone 14 = .ok (.invokevirtual 151, 3) := dk_182 0 151 (dk_at dksX2_isGone_0 14 rfl rfl)
theorem dX2_isGone_17 : decode cX2_isGone 17 = .ok (.if_icmp .ne 7, 3) := dk_160 0 7 (dk_at dksX2_isGone_0 17 rfl rfl)
theorem dX2_isGone_20 : decode cX2_isGone 20 = .ok (.iconst 1, 1) := dk_4 (dk_at dksX2_isGone_0 20 rfl rfl)
theorem dX2_isGone_21 : decode cX2_isGone 21 = .ok (.goto 4, 3) := dk_167 0 4 (dk_at dksX2_isGone_0 21 rfl rfl)
theorem dX2_isGone_24 : decode cX2_isGone 24 = .ok (.iconst 0, 1) := dk_3 (dk_at dksX2_isGone_1 0 rfl rfl)
theorem dX2_isGone_25 : decode cX2_isGone 25 = .ok (.ireturn, 1) := dk_172 (dk_at dksX2_isGone_1 1 rfl rfl)
def dkwX2_play_5 : List UInt8 := [4, 182, 0, 211, 177]
abbrev dktX2_play_5 : List UInt8 := dkwX2_play_5 ++ []
def dkwX2_play_4 : List UInt8 := [180, 0, 31, 4, 92, 46, 4, 96, 79, 42, 29, 153, 0, 7, 3, 167, 0, 4, 7, 44, 182, 0, 208, 2]
abbrev dktX2_play_4 : List UInt8 := dkwX2_play_4 ++ dktX2_play_5
def dkwX2_play_3 : List UInt8 := [182, 0, 201, 167, 0, 28, 42, 44, 182, 0, 204, 42, 89, 180, 0, 115, 4, 100, 181, 0, 115, 42]
abbrev dktX2_play_3 : List UInt8 := dkwX2_play_3 ++ dktX2_play_4
def dkwX2_play_2 : List UInt8 := [180, 0, 31, 3, 92, 46, 4, 96, 79, 44, 182, 0, 175, 42, 180, 0, 43, 180, 0, 142, 160, 0, 35, 42]
abbrev dktX2_play_2 : List UInt8 := dkwX2_play_2 ++ dktX2_play_3
def dkwX2_play_1 : List UInt8 := [182, 0, 198, 62, 29, 153, 0, 47, 42, 180, 0, 27, 44, 182, 0, 172, 92, 46, 4, 96, 79, 42]
abbrev dktX2_play_1 : List UInt8 := dkwX2_play_1 ++ dktX2_play_2
def dkwX2_play_0 : List UInt8 := [42, 182, 0, 191, 27, 182, 0, 195, 192, 0, 93, 180, 0, 168, 77, 42, 44, 182, 0, 172, 44, 182, 0, 175]
abbrev dktX2_play_0 : List UInt8 := dkwX2_play_0 ++ dktX2_play_1
theorem dksX2_play_0 : cX2_play.data.toList.drop 0 = dktX2_play_0 := by decide +kernel
theorem dksX2_play_1 : cX2_play.data.toList.drop 24 = dktX2_play_1 := dk_seg dksX2_play_0 24 rfl rfl
theorem dksX2_play_2 : cX2_play.data.toList.drop 46 = dktX2_play_2 := dk_seg dksX2_play_1 22 rfl rfl
theorem dksX2_play_3 : cX2_play.data.toList.drop 70 = dktX2_play_3 := dk_seg dksX2_play_2 24 rfl rfl
theorem dksX2_play_4 : cX2_play.data.toList.drop 92 = dktX2_play_4 := dk_seg dksX2_play_3 22 rfl rfl
theorem dksX2_play_5 : cX2_play.data.toList.drop 116 = dktX2_play_5 := dk_seg dksX2_play_4 24 rfl rfl
theorem dX2_play_0 : decode cX2_play 0 = .ok (.aload_n 0, 1) := dk_42 (dk_at dksX2_play_0 0 rfl rfl)
theorem dX2_play_1 : decode cX2_play 1 = .ok (.invokevirtual 191, 3) := dk_182 0 191 (dk_at dksX2_play_0 1 rfl rfl)
theorem dX2_play_4 : decode cX2_play 4 = .ok (.iload_n 1, 1) := dk_27 (dk_at dksX2_play_0 4 rfl rfl)
theorem dX2_play_5 : decode cX2_play 5 = .ok (.invokevirtual 195, 3) := dk_182 0 195 (dk_at dksX2_play_0 5 rfl rfl)
theorem dX2_play_8 : decode cX2_play 8 = .ok (.checkcast 93, 3) := dk_192 0 93 (dk_at dksX2_play_0 8 rfl rfl)
theorem dX2_play_11 : decode cX2_play 11 = .ok (.getfield 168, 3) := dk_180 0 168 (dk_at dksX2_play_0 11 rfl rfl)
theorem dX2_play_14 : decode cX2_play 14 = .ok (.astore_n 2, 1) := dk_77 (dk_at dksX2_play_0 14 rfl rfl)
theorem dX2_play_15 : decode cX2_play 15 = .ok (.aload_n 0, 1) := dk_42 (dk_at dksX2_play_0 15 rfl rfl)
theorem dX2_play_16 : decode cX2_play 16 = .ok (.aload_n 2, 1) := dk_44 (dk_at dksX2_play_0 16 rfl rfl)
theorem dX2_play_17 : decode cX2_play 17 = .ok (.invokevirtual 172, 3) := dk_182 0 172 (dk_at dksX2_play_0 17 rfl rfl)
theorem dX2_play_20 : decode cX2_play 20 = .ok (.aload_n 2, 1) := dk_44 (dk_at dksX2_play_0 20 rfl rfl)
theorem dX2_play_21 : decode cX2_play 21 = .ok (.invokevirtual 175, 3) := dk_182 0 175 (dk_at dksX2_play_0 21 rfl rfl)
theorem dX2_play_24 : decode cX2_play 24 = .ok (.invokevirtual 198, 3) := dk_182 0 198 (dk_at dksX2_play_1 0 rfl rfl)
theorem dX2_play_27 : decode cX2_play 27 = .ok (.istore_n 3, 1) := dk_62 (dk_at dksX2_play_1 3 rfl rfl)
theorem dX2_play_28 : decode cX2_play 28 = .ok (.iload_n 3, 1) := dk_29 (dk_at dksX2_play_1 4 rfl rfl)
theorem dX2_play_29 : decode cX2_play 29 = .ok (.ifCond .eq 47, 3) := dk_153 0 47 (dk_at dksX2_play_1 5 rfl rfl)
theorem dX2_play_32 : decode cX2_play 32 = .ok (.aload_n 0, 1) := dk_42 (dk_at dksX2_play_1 8 rfl rfl)
theorem dX2_play_33 : decode cX2_play 33 = .ok (.getfield 27, 3) := dk_180 0 27 (dk_at dksX2_play_1 9 rfl rfl)
theorem dX2_play_36 : decode cX2_play 36 = .ok (.aload_n 2, 1) := dk_44 (dk_at dksX2_play_1 12 rfl rfl)
theorem dX2_play_37 : decode cX2_play 37 = .ok (.invokevirtual 172, 3) := dk_182 0 172 (dk_at dksX2_play_1 13 rfl rfl)
theorem dX2_play_40 : decode cX2_play 40 = .ok (.dup2, 1) := dk_92 (dk_at dksX2_play_1 16 rfl rfl)
theorem dX2_play_41 : decode cX2_play 41 = .ok (.iaload, 1) := dk_46 (dk_at dksX2_play_1 17 rfl rfl)
theorem dX2_play_42 : decode cX2_play 42 = .ok (.iconst 1, 1) := dk_4 (dk_at dksX2_play_1 18 rfl rfl)
theorem dX2_play_43 : decode cX2_play 43 = .ok (.iadd, 1) := dk_96 (dk_at dksX2_play_1 19 rfl rfl)
theorem dX2_play_44 : decode cX2_play 44 = .ok (.iastore, 1) := dk_79 (dk_at dksX2_play_1 20 rfl rfl)
theorem dX2_play_45 : decode cX2_play 45 = .ok (.aload_n 0, 1) := dk_42 (dk_at dksX2_play_1 21 rfl rfl)
theorem dX2_play_46 : decode cX2_play 46 = .ok (.getfield 31, 3) := dk_180 0 31 (dk_at dksX2_play_2 0 rfl rfl)
theorem dX2_play_49 : decode cX2_play 49 = .ok (.iconst 0, 1) := dk_3 (dk_at dksX2_play_2 3 rfl rfl)
theorem dX2_play_50 : decode cX2_play 50 = .ok (.dup2, 1) := dk_92 (dk_at dksX2_play_2 4 rfl rfl)
theorem dX2_play_51 : decode cX2_play 51 = .ok (.iaload, 1) := dk_46 (dk_at dksX2_play_2 5 rfl rfl)
theorem dX2_play_52 : decode cX2_play 52 = .ok (.iconst 1, 1) := dk_4 (dk_at dksX2_play_2 6 rfl rfl)
theorem dX2_play_53 : decode cX2_play 53 = .ok (.iadd, 1) := dk_96 (dk_at dksX2_play_2 7 rfl rfl)
theorem dX2_play_54 : decode cX2_play 54 = .ok (.iastore, 1) := dk_79 (dk_at dksX2_play_2 8 rfl rfl)
theorem dX2_play_55 : decode cX2_play 55 = .ok (.aload_n 2, 1) := dk_44 (dk_at dksX2_play_2 9 rfl rfl)
theorem dX2_play_56 : decode cX2_play 56 = .ok (.invokevirtual 175, 3) := dk_182 0 175 (dk_at dksX2_play_2 10 rfl rfl)
theorem dX2_play_59 : decode cX2_play 59 = .ok (.aload_n 0, 1) := dk_42 (dk_at dksX2_play_2 13 rfl rfl)
theorem dX2_play_60 : decode cX2_play 60 = .ok (.getfield 43, 3) := dk_180 0 43 (dk_at dksX2_play_2 14 rfl rfl)
theorem dX2_play_63 : decode cX2_play 63 = .ok (.getfield 142, 3) := dk_180 0 142 (dk_at dksX2_play_2 17 rfl rfl)
theorem dX2_play_66 : decode cX2_play 66 = .ok (.if_icmp .ne 35, 3) := dk_160 0 35 (dk_at dksX2_play_2 20 rfl rfl)
theorem dX2_play_69 : decode cX2_play 69 = .ok (.aload_n 0, 1) := dk_42 (dk_at dksX2_play_2 23 rfl rfl)
theorem dX2_play_70 : decode cX2_play 70 = .ok (.invokevirtual 201, 3) := dk_182 0 201 (dk_at dksX2_play_3 0 rfl rfl)
theorem dX2_play_73 : decode cX2_play 73 = .ok (.goto 28, 3) := dk_167 0 28 (dk_at dksX2_play_3 3 rfl rfl)
theorem dX2_play_76 : decode cX2_play 76 = .ok (.aload_n 0, 1) := dk_42 (dk_at dksX2_play_3 6 rfl rfl)
theorem dX2_play_77 : decode cX2_play 77 = .ok (.aload_n 2, 1) := dk_44 (dk_at dksX2_play_3 7 rfl rfl)
theorem dX2_play_78 : decode cX2_play 78 = .ok (.invokevirtual 204, 3) := dk_182 0 204 (dk_at dksX2_play_3 8 rfl rfl)
theorem dX2_play_81 : decode cX2_play 81 = .ok (.aload_n 0, 1) := dk_42 (dk_at dksX2_play_3 11 rfl rfl)
theorem dX2_play_82 : decode cX2_play 82 = .ok (.dup, 1) := dk_89 (dk_at dksX2_play_3 12 rfl rfl)
theorem dX2_play_83 : decode cX2_play 83 = .ok (.getfield 115, 3) := dk_180 0 115 (dk_at dksX2_play_3 13 rfl rfl)
theorem dX2_play_86 : decode cX2_play 86 = .ok (.iconst 1, 1) := dk_4 (dk_at dksX2_play_3 16 rfl rfl)
theorem dX2_play_87 : decode cX2_play 87 = .ok (.isub, 1) := dk_100 (dk_at dksX2_play_3 17 rfl rfl)
theorem dX2_play_88 : decode cX2_play 88 = .ok (.putfield 115, 3) := dk_181 0 115 (dk_at dksX2_play_3 18 rfl rfl)
theorem dX2_play_91 : decode cX2_play 91 = .ok (.aload_n 0, 1) := dk_42 (dk_at dksX2_play_3 21 rfl rfl)
theorem dX2_play_92 : decode cX2_play 92 = .ok (.getfield 31, 3) := dk_180 0 31 (dk_at dksX2_play_4 0 rfl rfl)
theorem dX2_play_95 : decode cX2_play 95 = .ok (.iconst 1, 1) := dk_4 (dk_at dksX2_play_4 3 rfl rfl)
theorem dX2_play_96 : decode cX2_play 96 = .ok (.dup2, 1) := dk_92 (dk_at dksX2_play_4 4 rfl rfl)
theorem dX2_play_97 : decode cX2_play 97 = .ok (.iaload, 1) := dk_46 (dk_at dksX2_play_4 5 rfl rfl)
theorem dX2_play_98 : decode cX2_play 98 = .ok (.iconst 1, 1) := dk_4 (dk_at dksX2_play_4 6 rfl rfl)
theorem dX2_play_99 : decode cX2_play 99 = .ok (.iadd, 1) := dk_96 (dk_at dksX2_play_4 7 rfl rfl)
theorem dX2_play_100 : decode cX2_play 100 = .ok (.iastore, 1) := dk_79 (dk_at dksX2_play_4 8 rfl rfl)
theorem dX2_play_101 : decode cX2_play 101 = .ok (.aload_n 0, 1) := dk_42 (dk_at dksX2_play_4 9 rfl rfl)
theorem dX2_play_102 : decode cX2_play 102 = .ok (.iload_n 3, 1) := dk_29 (dk_at dksX2_play_4 10 rfl rfl)
theorem dX2_play_103 : decode cX2_play 103 = .ok (.ifCond .eq 7, 3) := dk_153 0 7 (dk_at dksX2_play_4 11 rfl rfl)
theorem dX2_play_106 : decode cX2_play 106 = .ok (.iconst 0, 1) := dk_3 (dk_at dksX2_play_4 14 rfl rfl)
theorem dX2_play_107 : decode cX2_play 107 = .ok (.goto 4, 3) := dk_167 0 4 (dk_at dksX2_play_4 15 rfl rfl)
theorem dX2_play_110 : decode cX2_play 110 = .ok (.iconst 4, 1) := dk_7 (dk_at dksX2_play_4 18 rfl rfl)
theorem dX2_play_111 : decode cX2_play 111 = .ok (.aload_n 2, 1) := dk_44 (dk_at dksX2_play_4 19 rfl rfl)
theorem dX2_play_112 : decode cX2_play 112 = .ok (.invokevirtual 208, 3) := dk_182 0 208 (dk_at dksX2_play_4 20 rfl rfl)
theorem dX2_play_115 : decode cX2_play 115 = .ok (.iconst (-1), 1) := dk_2 (dk_at dksX2_play_4 23 rfl rfl)
theorem dX2_play_116 : decode cX2_play 116 = .ok (.iconst 1, 1) := dk_4 (dk_at dksX2_play_5 0 rfl rfl)
theorem dX2_play_117 : decode cX2_play 117 = .ok (.invokevirtual 211, 3) := dk_182 0 211 (dk_at dksX2_play_5 1 rfl rfl)
theorem dX2_play_120 : decode cX2_play 120 = .ok (.return_, 1) := dk_177 (dk_at dksX2_play_5 4 rfl rfl)
def dkwX2_comesBack_1 : List UInt8 := [181, 0, 112, 42, 180, 0, 31, 7, 92, 46, 4, 96, 79, 177]
abbrev dktX2_comesBack_1 : List UInt8 := dkwX2_comesBack_1 ++ []
def dkwX2_comesBack_0 : List UInt8 := [42, 180, 0, 112, 42, 180, 0, 43, 180, 0, 182, 160, 0, 4, 177, 42, 89, 180, 0, 112, 4, 96]
abbrev dktX2_comesBack_0 : List UInt8 := dkwX2_comesBack_0 ++ dktX2_comesBack_1
theorem dksX2_comesBack_0 : cX2_comesBack.data.toList.drop 0 = dktX2_comesBack_0 := by decide +kernel
theorem dksX2_comesBack_1 : cX2_comesBack.data.toList.drop 22 = dktX2_comesBack_1 := dk_seg dksX2_comesBack_0 22 rfl rfl
theorem dX2_comesBack_0 : decode cX2_comesBack 0 = .ok (.aload_n 0, 1) := dk_42 (dk_at dksX2_comesBack_0 0 rfl rfl)
theorem dX2_comesBack_1 : decode cX2_comesBack 1 = .ok (.getfield 112, 3) := dk_180 0 112 (dk_at dksX2_comesBack_0 1 rfl rfl)
theorem dX2_comesBack_4 : decode cX2_comesBack 4 = .ok (.aload_n 0, 1) := dk_42 (dk_at dksX2_comesBack_0 4 rfl rfl)
theorem dX2_comesBack_5 : decode cX2_comesBack 5 = .ok (.getfield 43, 3) := dk_180 0 43 (dk_at dksX2_comesBack_0 5 rfl rfl)
theorem dX2_comesBack_8 : decode cX2_comesBack 8 = .ok (.getfield 182, 3) := dk_180 0 182 (dk_at dksX2_comesBack_0 8 rfl rfl)
theorem dX2_comesBack_11 : decode cX2_comesBack 11 = .ok (.if_icmp .ne 4, 3) := dk_160 0 4 (dk_at dksX2_comesBack_0 11 rfl rfl)
theorem dX2_comesBack_14 : decode cX2_comesBack 14 = .ok (.return_, 1) := dk_177 (dk_at dksX2_comesBack_0 14 rfl rfl)
theorem dX2_comesBack_15 : decode cX2_comesBack 15 = .ok (.aload_n 0, 1) := dk_42 (dk_at dksX2_comesBack_0 15 rfl rfl)
theorem dX2_comesBack_16 : decode cX2_comesBack 16 = .ok (.dup, 1) := dk_89 (dk_at dksX2_comesBack_0 16 rfl rfl)
theorem dX2_comesBack_17 : decode cX2_comesBack 17 = .ok (.getfield 112, 3) := dk_180 0 112 (dk_at dksX2_comesBack_0 17 rfl rfl)
theorem dX2_comesBack_20 : decode cX2_comesBack 20 = .ok (.iconst 1, 1) := dk_4 (dk_at dksX2_comesBack_0 20 rfl rfl)
theorem dX2_comesBack_21 : decode cX2_comesBack 21 = .ok (.iadd, 1) := dk_96 (dk_at dksX2_comesBack_0 21 rfl rfl)
theorem dX2_comesBack_22 : decode cX2_comesBack 22 = .ok (.putfield 112, 3) := dk_181 0 112 (dk_at dksX2_comesBack_1 0 rfl rfl)
theorem dX2_comesBack_25 : decode cX2_comesBack 25 = .ok (.aload_n 0, 1) := dk_42 (dk_at dksX2_comesBack_1 3 rfl rfl)
theorem dX2_comesBack_26 : decode cX2_comesBack 26 = .ok (.getfield 31, 3) := dk_180 0 31 (dk_at dksX2_comesBack_1 4 rfl rfl)
theorem dX2_comesBack_29 : decode cX2_comesBack 29 = .ok (.iconst 4, 1) := dk_7 (dk_at dksX2_comesBack_1 7 rfl rfl)
theorem dX2_comesBack_30 : decode cX2_comesBack 30 = .ok (.dup2, 1) := dk_92 (dk_at dksX2_comesBack_1 8 rfl rfl)
theorem dX2_comesBack_31 : decode cX2_comesBack 31 = .ok (.iaload, 1) := dk_46 (dk_at dksX2_comesBack_1 9 rfl rfl)
theorem dX2_comesBack_32 : decode cX2_comesBack 32 = .ok (.iconst 1, 1) := dk_4 (dk_at dksX2_comesBack_1 10 rfl rfl)
theorem dX2_comesBack_33 : decode cX2_comesBack 33 = .ok (.iadd, 1) := dk_96 (dk_at dksX2_comesBack_1 11 rfl rfl)
theorem dX2_comesBack_34 : decode cX2_comesBack 34 = .ok (.iastore, 1) := dk_79 (dk_at dksX2_comesBack_1 12 rfl rfl)
theorem dX2_comesBack_35 : decode cX2_comesBack 35 = .ok (.return_, 1) := dk_177 (dk_at dksX2_comesBack_1 13 rfl rfl)
def dkwX2_goes_2 : List UInt8 := [177]
abbrev dktX2_goes_2 : List UInt8 := dkwX2_goes_2 ++ []
def dkwX2_goes_1 : List UInt8 := [167, 0, 4, 3, 96, 79, 42, 180, 0, 36, 43, 182, 0, 172, 50, 43, 182, 0, 175, 92, 46, 4, 96, 79]
abbrev dktX2_goes_1 : List UInt8 := dkwX2_goes_1 ++ dktX2_goes_2
def dkwX2_goes_0 : List UInt8 := [42, 180, 0, 31, 16, 6, 92, 46, 42, 43, 182, 0, 172, 43, 182, 0, 175, 182, 0, 185, 153, 0, 7, 4]
abbrev dktX2_goes_0 : List UInt8 := dkwX2_goes_0 ++ dktX2_goes_1
theorem dksX2_goes_0 : cX2_goes.data.toList.drop 0 = dktX2_goes_0 := by decide +kernel
theorem dksX2_goes_1 : cX2_goes.data.toList.drop 24 = dktX2_goes_1 := dk_seg dksX2_goes_0 24 rfl rfl
theorem dksX2_goes_2 : cX2_goes.data.toList.drop 48 = dktX2_goes_2 := dk_seg dksX2_goes_1 24 rfl rfl
theorem dX2_goes_0 : decode cX2_goes 0 = .ok (.aload_n 0, 1) := dk_42 (dk_at dksX2_goes_0 0 rfl rfl)
theorem dX2_goes_1 : decode cX2_goes 1 = .ok (.getfield 31, 3) := dk_180 0 31 (dk_at dksX2_goes_0 1 rfl rfl)
theorem dX2_goes_4 : decode cX2_goes 4 = .ok (.bipush 6, 2) := dk_16 6 (dk_at dksX2_goes_0 4 rfl rfl)
theorem dX2_goes_6 : decode cX2_goes 6 = .ok (.dup2, 1) := dk_92 (dk_at dksX2_goes_0 6 rfl rfl)
theorem dX2_goes_7 : decode cX2_goes 7 = .ok (.iaload, 1) := dk_46 (dk_at dksX2_goes_0 7 rfl rfl)
theorem dX2_goes_8 : decode cX2_goes 8 = .ok (.aload_n 0, 1) := dk_42 (dk_at dksX2_goes_0 8 rfl rfl)
theorem dX2_goes_9 : decode cX2_goes 9 = .ok (.aload_n 1, 1) := dk_43 (dk_at dksX2_goes_0 9 rfl rfl)
theorem dX2_goes_10 : decode cX2_goes 10 = .ok (.invokevirtual 172, 3) := dk_182 0 172 (dk_at dksX2_goes_0 10 rfl rfl)
theorem dX2_goes_13 : decode cX2_goes 13 = .ok (.aload_n 1, 1) := dk_43 (dk_at dksX2_goes_0 13 rfl rfl)
theorem dX2_goes_14 : decode cX2_goes 14 = .ok (.invokevirtual 175, 3) := dk_182 0 175 (dk_at dksX2_goes_0 14 rfl rfl)
theorem dX2_goes_17 : decode cX2_goes 17 = .ok (.invokevirtual 185, 3) := dk_182 0 185 (dk_at dksX2_goes_0 17 rfl rfl)
theorem dX2_goes_20 : decode cX2_goes 20 = .ok (.ifCond .eq 7, 3) := dk_153 0 7 (dk_at dksX2_goes_0 20 rfl rfl)
theorem dX2_goes_23 : decode cX2_goes 23 = .ok (.iconst 1, 1) := dk_4 (dk_at dksX2_goes_0 23 rfl rfl)
theorem dX2_goes_24 : decode cX2_goes 24 = .ok (.goto 4, 3) := dk_167 0 4 (dk_at dksX2_goes_1 0 rfl rfl)
theorem dX2_goes_27 : decode cX2_goes 27 = .ok (.iconst 0, 1) := dk_3 (dk_at dksX2_goes_1 3 rfl rfl)
theorem dX2_goes_28 : decode cX2_goes 28 = .ok (.iadd, 1) := dk_96 (dk_at dksX2_goes_1 4 rfl rfl)
theorem dX2_goes_29 : decode cX2_goes 29 = .ok (.iastore, 1) := dk_79 (dk_at dksX2_goes_1 5 rfl rfl)
theorem dX2_goes_30 : decode cX2_goes 30 = .ok (.aload_n 0, 1) := dk_42 (dk_at dksX2_goes_1 6 rfl rfl)
theorem dX2_goes_31 : decode cX2_goes 31 = .ok (.getfield 36, 3) := dk_180 0 36 (dk_at dksX2_goes_1 7 rfl rfl)
theorem dX2_goes_34 : decode cX2_goes 34 = .ok (.aload_n 1, 1) := dk_43 (dk_at dksX2_goes_1 10 rfl rfl)
theorem dX2_goes_35 : decode cX2_goes 35 = .ok (.invokevirtual 172, 3) := dk_182 0 172 (dk_at dksX2_goes_1 11 rfl rfl)
theorem dX2_goes_38 : decode cX2_goes 38 = .ok (.aaload, 1) := dk_50 (dk_at dksX2_goes_1 14 rfl rfl)
theorem dX2_goes_39 : decode cX2_goes 39 = .ok (.aload_n 1, 1) := dk_43 (dk_at dksX2_goes_1 15 rfl rfl)
theorem dX2_goes_40 : decode cX2_goes 40 = .ok (.invokevirtual 175, 3) := dk_182 0 175 (dk_at dksX2_goes_1 16 rfl rfl)
theorem dX2_goes_43 : decode cX2_goes 43 = .ok (.dup2, 1) := dk_92 (dk_at dksX2_goes_1 19 rfl rfl)
theorem dX2_goes_44 : decode cX2_goes 44 = .ok (.iaload, 1) := dk_46 (dk_at dksX2_goes_1 20 rfl rfl)
theorem dX2_goes_45 : decode cX2_goes 45 = .ok (.iconst 1, 1) := dk_4 (dk_at dksX2_goes_1 21 rfl rfl)
theorem dX2_goes_46 : decode cX2_goes 46 = .ok (.iadd, 1) := dk_96 (dk_at dksX2_goes_1 22 rfl rfl)
theorem dX2_goes_47 : decode cX2_goes 47 = .ok (.iastore, 1) := dk_79 (dk_at dksX2_goes_1 23 rfl rfl)
theorem dX2_goes_48 : decode cX2_goes 48 = .ok (.return_, 1) := dk_177 (dk_at dksX2_goes_2 0 rfl rfl)
def dkwX2_isCritical_1 : List UInt8 := [28, 46, 100, 4, 160, 0, 7, 4, 167, 0, 4, 3, 172]
abbrev dktX2_isCritical_1 : List UInt8 := dkwX2_isCritical_1 ++ []
def dkwX2_isCritical_0 : List UInt8 := [42, 27, 28, 182, 0, 163, 154, 0, 29, 42, 180, 0, 43, 27, 28, 182, 0, 151, 42, 180, 0, 36, 27, 50]
abbrev dktX2_isCritical_0 : List UInt8 := dkwX2_isCritical_0 ++ dktX2_isCritical_1
theorem dksX2_isCritical_0 : cX2_isCritical.data.toList.drop 0 = dktX2_isCritical_0 := by decide +kernel
theorem dksX2_isCritical_1 : cX2_isCritical.data.toList.drop 24 = dktX2_isCritical_1 := dk_seg dksX2_isCritical_0 24 rfl rfl
theorem dX2_isCritical_0 : decode cX2_isCritical 0 = .ok (.aload_n 0, 1) := dk_42 (dk_at dksX2_isCritical_0 0 rfl rfl)
theorem dX2_isCritical_1 : decode cX2_isCritical 1 = .ok (.iload_n 1, 1) := dk_27 (dk_at dksX2_isCritical_0 1 rfl rfl)
theorem dX2_isCritical_2 : decode cX2_isCritical 2 = .ok (.iload_n 2, 1) := dk_28 (dk_at dksX2_isCritical_0 2 rfl rfl)
theorem dX2_isCritical_3 : decode cX2_isCritical 3 = .ok (.invokevirtual 163, 3) := dk_182 0 163 (dk_at dksX2_isCritical_0 3 rfl rfl)
theorem dX2_isCritical_6 : decode cX2_isCritical 6 = .ok (.ifCond .ne 29, 3) := dk_154 0 29 (dk_at dksX2_isCritical_0 6 rfl rfl)
theorem dX2_isCritical_9 : decode cX2_isCritical 9 = .ok (.aload_n 0, 1) := dk_42 (dk_at dksX2_isCritical_0 9 rfl rfl)
theorem dX2_isCritical_10 : decode cX2_isCritical 10 = .ok (.getfield 43, 3) := dk_180 0 43 (dk_at dksX2_isCritical_0 10 rfl rfl)
theorem dX2_isCritical_13 : decode cX2_isCritical 13 = .ok (.iload_n 1, 1) := dk_27 (dk_at dksX2_isCritical_0 13 rfl rfl)
theorem dX2_isCritical_14 : decode cX2_isCritical 14 = .ok (.iload_n 2, 1) := dk_28 (dk_at dksX2_isCritical_0 14 rfl rfl)
theorem dX2_isCritical_15 : decode cX2_isCritical 15 = .ok (.invokevirtual 151, 3) := dk_182 0 151 (dk_at dksX2_isCritical_0 15 rfl rfl)
theorem dX2_isCritical_18 : decode cX2_isCritical 18 = .ok (.aload_n 0, 1) := dk_42 (dk_at dksX2_isCritical_0 18 rfl rfl)
theorem dX2_isCritical_19 : decode cX2_isCritical 19 = .ok (.getfield 36, 3) := dk_180 0 36 (dk_at dksX2_isCritical_0 19 rfl rfl)
theorem dX2_isCritical_22 : decode cX2_isCritical 22 = .ok (.iload_n 1, 1) := dk_27 (dk_at dksX2_isCritical_0 22 rfl rfl)
theorem dX2_isCritical_23 : decode cX2_isCritical 23 = .ok (.aaload, 1) := dk_50 (dk_at dksX2_isCritical_0 23 rfl rfl)
theorem dX2_isCritical_24 : decode cX2_isCritical 24 = .ok (.iload_n 2, 1) := dk_28 (dk_at dksX2_isCritical_1 0 rfl rfl)
theorem dX2_isCritical_25 : decode cX2_isCritical 25 = .ok (.iaload, 1) := dk_46 (dk_at dksX2_isCritical_1 1 rfl rfl)
theorem dX2_isCritical_26 : decode cX2_isCritical 26 = .ok (.isub, 1) := dk_100 (dk_at dksX2_isCritical_1 2 rfl rfl)
theorem dX2_isCritical_27 : decode cX2_isCritical 27 = .ok (.iconst 1, 1) := dk_4 (dk_at dksX2_isCritical_1 3 rfl rfl)
theorem dX2_isCritical_28 : decode cX2_isCritical 28 = .ok (.if_icmp .ne 7, 3) := dk_160 0 7 (dk_at dksX2_isCritical_1 4 rfl rfl)
theorem dX2_isCritical_31 : decode cX2_isCritical 31 = .ok (.iconst 1, 1) := dk_4 (dk_at dksX2_isCritical_1 7 rfl rfl)
theorem dX2_isCritical_32 : decode cX2_isCritical 32 = .ok (.goto 4, 3) := dk_167 0 4 (dk_at dksX2_isCritical_1 8 rfl rfl)
theorem dX2_isCritical_35 : decode cX2_isCritical 35 = .ok (.iconst 0, 1) := dk_3 (dk_at dksX2_isCritical_1 11 rfl rfl)
theorem dX2_isCritical_36 : decode cX2_isCritical 36 = .ok (.ireturn, 1) := dk_172 (dk_at dksX2_isCritical_1 12 rfl rfl)
def dkwX2_discard_1 : List UInt8 := [5, 92, 46, 4, 96, 79, 42, 182, 0, 201, 42, 4, 44, 182, 0, 208, 2, 4, 182, 0, 211, 177]
abbrev dktX2_discard_1 : List UInt8 := dkwX2_discard_1 ++ []
def dkwX2_discard_0 : List UInt8 := [42, 182, 0, 191, 27, 182, 0, 195, 192, 0, 93, 180, 0, 168, 77, 42, 44, 182, 0, 204, 42, 180, 0, 31]
abbrev dktX2_discard_0 : List UInt8 := dkwX2_discard_0 ++ dktX2_discard_1
theorem dksX2_discard_0 : cX2_discard.data.toList.drop 0 = dktX2_discard_0 := by decide +kernel
theorem dksX2_discard_1 : cX2_discard.data.toList.drop 24 = dktX2_discard_1 := dk_seg dksX2_discard_0 24 rfl rfl
theorem dX2_discard_0 : decode cX2_discard 0 = .ok (.aload_n 0, 1) := dk_42 (dk_at dksX2_discard_0 0 rfl rfl)
theorem dX2_discard_1 : decode cX2_discard 1 = .ok (.invokevirtual 191, 3) := dk_182 0 191 (dk_at dksX2_discard_0 1 rfl rfl)
theorem dX2_discard_4 : decode cX2_discard 4 = .ok (.iload_n 1, 1) := dk_27 (dk_at dksX2_discard_0 4 rfl rfl)
theorem dX2_discard_5 : decode cX2_discard 5 = .ok (.invokevirtual 195, 3) := dk_182 0 195 (dk_at dksX2_discard_0 5 rfl rfl)
theorem dX2_discard_8 : decode cX2_discard 8 = .ok (.checkcast 93, 3) := dk_192 0 93 (dk_at dksX2_discard_0 8 rfl rfl)
theorem dX2_discard_11 : decode cX2_discard 11 = .ok (.getfield 168, 3) := dk_180 0 168 (dk_at dksX2_discard_0 11 rfl rfl)
theorem dX2_discard_14 : decode cX2_discard 14 = .ok (.astore_n 2, 1) := dk_77 (dk_at dksX2_discard_0 14 rfl rfl)
theorem dX2_discard_15 : decode cX2_discard 15 = .ok (.aload_n 0, 1) := dk_42 (dk_at dksX2_discard_0 15 rfl rfl)
theorem dX2_discard_16 : decode cX2_discard 16 = .ok (.aload_n 2, 1) := dk_44 (dk_at dksX2_discard_0 16 rfl rfl)
theorem dX2_discard_17 : decode cX2_discard 17 = .ok (.invokevirtual 204, 3) := dk_182 0 204 (dk_at dksX2_discard_0 17 rfl rfl)
theorem dX2_discard_20 : decode cX2_discard 20 = .ok (.aload_n 0, 1) := dk_42 (dk_at dksX2_discard_0 20 rfl rfl)
theorem dX2_discard_21 : decode cX2_discard 21 = .ok (.getfield 31, 3) := dk_180 0 31 (dk_at dksX2_discard_0 21 rfl rfl)
theorem dX2_discard_24 : decode cX2_discard 24 = .ok (.iconst 2, 1) := dk_5 (dk_at dksX2_discard_1 0 rfl rfl)
theorem dX2_discard_25 : decode cX2_discard 25 = .ok (.dup2, 1) := dk_92 (dk_at dksX2_discard_1 1 rfl rfl)
theorem dX2_discard_26 : decode cX2_discard 26 = .ok (.iaload, 1) := dk_46 (dk_at dksX2_discard_1 2 rfl rfl)
theorem dX2_discard_27 : decode cX2_discard 27 = .ok (.iconst 1, 1) := dk_4 (dk_at dksX2_discard_1 3 rfl rfl)
theorem dX2_discard_28 : decode cX2_discard 28 = .ok (.iadd, 1) := dk_96 (dk_at dksX2_discard_1 4 rfl rfl)
theorem dX2_discard_29 : decode cX2_discard 29 = .ok (.iastore, 1) := dk_79 (dk_at dksX2_discard_1 5 rfl rfl)
theorem dX2_discard_30 : decode cX2_discard 30 = .ok (.aload_n 0, 1) := dk_42 (dk_at dksX2_discard_1 6 rfl rfl)
theorem dX2_discard_31 : decode cX2_discard 31 = .ok (.invokevirtual 201, 3) := dk_182 0 201 (dk_at dksX2_discard_1 7 rfl rfl)
theorem dX2_discard_34 : decode cX2_discard 34 = .ok (.aload_n 0, 1) := dk_42 (dk_at dksX2_discard_1 10 rfl rfl)
theorem dX2_discard_35 : decode cX2_discard 35 = .ok (.iconst 1, 1) := dk_4 (dk_at dksX2_discard_1 11 rfl rfl)
theorem dX2_discard_36 : decode cX2_discard 36 = .ok (.aload_n 2, 1) := dk_44 (dk_at dksX2_discard_1 12 rfl rfl)
theorem dX2_discard_37 : decode cX2_discard 37 = .ok (.invokevirtual 208, 3) := dk_182 0 208 (dk_at dksX2_discard_1 13 rfl rfl)
theorem dX2_discard_40 : decode cX2_discard 40 = .ok (.iconst (-1), 1) := dk_2 (dk_at dksX2_discard_1 16 rfl rfl)
theorem dX2_discard_41 : decode cX2_discard 41 = .ok (.iconst 1, 1) := dk_4 (dk_at dksX2_discard_1 17 rfl rfl)
theorem dX2_discard_42 : decode cX2_discard 42 = .ok (.invokevirtual 211, 3) := dk_182 0 211 (dk_at dksX2_discard_1 18 rfl rfl)
theorem dX2_discard_45 : decode cX2_discard 45 = .ok (.return_, 1) := dk_177 (dk_at dksX2_discard_1 21 rfl rfl)
def dkwX2_hint_5 : List UInt8 := [29, 96, 3, 182, 0, 211, 21, 4, 172]
abbrev dktX2_hint_5 : List UInt8 := dkwX2_hint_5 ++ []
def dkwX2_hint_4 : List UInt8 := [6, 92, 46, 4, 96, 79, 42, 180, 0, 31, 8, 92, 46, 21, 4, 96, 79, 42, 5, 27, 16, 10, 28, 104]
abbrev dktX2_hint_4 : List UInt8 := dkwX2_hint_4 ++ dktX2_hint_5
def dkwX2_hint_3 : List UInt8 := [180, 0, 112, 4, 100, 181, 0, 112, 42, 180, 0, 40, 28, 50, 29, 92, 46, 4, 100, 79, 42, 180, 0, 31]
abbrev dktX2_hint_3 : List UInt8 := dkwX2_hint_3 ++ dktX2_hint_4
def dkwX2_hint_2 : List UInt8 := [192, 0, 20, 21, 5, 182, 0, 167, 192, 0, 93, 28, 29, 182, 0, 226, 132, 5, 1, 167, 255, 206, 42, 89]
abbrev dktX2_hint_2 : List UInt8 := dkwX2_hint_2 ++ dktX2_hint_3
def dkwX2_hint_1 : List UInt8 := [185, 0, 76, 2, 0, 192, 0, 20, 182, 0, 166, 162, 0, 35, 42, 180, 0, 14, 27, 185, 0, 76, 2, 0]
abbrev dktX2_hint_1 : List UInt8 := dkwX2_hint_1 ++ dktX2_hint_2
def dkwX2_hint_0 : List UInt8 := [42, 27, 28, 29, 182, 0, 218, 184, 0, 221, 54, 4, 3, 54, 5, 21, 5, 42, 180, 0, 14, 27]
abbrev dktX2_hint_0 : List UInt8 := dkwX2_hint_0 ++ dktX2_hint_1
theorem dksX2_hint_0 : cX2_hint.data.toList.drop 0 = dktX2_hint_0 := by decide +kernel
theorem dksX2_hint_1 : cX2_hint.data.toList.drop 22 = dktX2_hint_1 := dk_seg dksX2_hint_0 22 rfl rfl
theorem dksX2_hint_2 : cX2_hint.data.toList.drop 46 = dktX2_hint_2 := dk_seg dksX2_hint_1 24 rfl rfl
theorem dksX2_hint_3 : cX2_hint.data.toList.drop 70 = dktX2_hint_3 := dk_seg dksX2_hint_2 24 rfl rfl
theorem dksX2_hint_4 : cX2_hint.data.toList.drop 94 = dktX2_hint_4 := dk_seg dksX2_hint_3 24 rfl rfl
theorem dksX2_hint_5 : cX2_hint.data.toList.drop 118 = dktX2_hint_5 := dk_seg dksX2_hint_4 24 rfl rfl
theorem dX2_hint_0 : decode cX2_hint 0 = .ok (.aload_n 0, 1) := dk_42 (dk_at dksX2_hint_0 0 rfl rfl)
theorem dX2_hint_1 : decode cX2_hint 1 = .ok (.iload_n 1, 1) := dk_27 (dk_at dksX2_hint_0 1 rfl rfl)
theorem dX2_hint_2 : decode cX2_hint 2 = .ok (.iload_n 2, 1) := dk_28 (dk_at dksX2_hint_0 2 rfl rfl)
theorem dX2_hint_3 : decode cX2_hint 3 = .ok (.iload_n 3, 1) := dk_29 (dk_at dksX2_hint_0 3 rfl rfl)
theorem dX2_hint_4 : decode cX2_hint 4 = .ok (.invokevirtual 218, 3) := dk_182 0 218 (dk_at dksX2_hint_0 4 rfl rfl)
theorem dX2_hint_7 : decode cX2_hint 7 = .ok (.invokestatic 221, 3) := dk_184 0 221 (dk_at dksX2_hint_0 7 rfl rfl)
theorem dX2_hint_10 : decode cX2_hint 10 = .ok (.istore 4, 2) := dk_54 4 (dk_at dksX2_hint_0 10 rfl rfl)
theorem dX2_hint_12 : decode cX2_hint 12 = .ok (.iconst 0, 1) := dk_3 (dk_at dksX2_hint_0 12 rfl rfl)
theorem dX2_hint_13 : decode cX2_hint 13 = .ok (.istore 5, 2) := dk_54 5 (dk_at dksX2_hint_0 13 rfl rfl)
theorem dX2_hint_15 : decode cX2_hint 15 = .ok (.iload 5, 2) := dk_21 5 (dk_at dksX2_hint_0 15 rfl rfl)
theorem dX2_hint_17 : decode cX2_hint 17 = .ok (.aload_n 0, 1) := dk_42 (dk_at dksX2_hint_0 17 rfl rfl)
theorem dX2_hint_18 : decode cX2_hint 18 = .ok (.getfield 14, 3) := dk_180 0 14 (dk_at dksX2_hint_0 18 rfl rfl)
theorem dX2_hint_21 : decode cX2_hint 21 = .ok (.iload_n 1, 1) := dk_27 (dk_at dksX2_hint_0 21 rfl rfl)
theorem dX2_hint_22 : decode cX2_hint 22 = .ok (.invokeinterface 76 2, 5) := by decide +kernel
theorem dX2_hint_27 : decode cX2_hint 27 = .ok (.checkcast 20, 3) := dk_192 0 20 (dk_at dksX2_hint_1 5 rfl rfl)
theorem dX2_hint_30 : decode cX2_hint 30 = .ok (.invokevirtual 166, 3) := dk_182 0 166 (dk_at dksX2_hint_1 8 rfl rfl)
theorem dX2_hint_33 : decode cX2_hint 33 = .ok (.if_icmp .ge 35, 3) := dk_162 0 35 (dk_at dksX2_hint_1 11 rfl rfl)
theorem dX2_hint_36 : decode cX2_hint 36 = .ok (.aload_n 0, 1) := dk_42 (dk_at dksX2_hint_1 14 rfl rfl)
theorem dX2_hint_37 : decode cX2_hint 37 = .ok (.getfield 14, 3) := dk_180 0 14 (dk_at dksX2_hint_1 15 rfl rfl)
theorem dX2_hint_40 : decode cX2_hint 40 = .ok (.iload_n 1, 1) := dk_27 (dk_at dksX2_hint_1 18 rfl rfl)
theorem dX2_hint_41 : decode cX2_hint 41 = .ok (.invokeinterface 76 2, 5) := by decide +kernel
theorem dX2_hint_46 : decode cX2_hint 46 = .ok (.checkcast 20, 3) := dk_192 0 20 (dk_at dksX2_hint_2 0 rfl rfl)
theorem dX2_hint_49 : decode cX2_hint 49 = .ok (.iload 5, 2) := dk_21 5 (dk_at dksX2_hint_2 3 rfl rfl)
theorem dX2_hint_51 : decode cX2_hint 51 = .ok (.invokevirtual 167, 3) := dk_182 0 167 (dk_at dksX2_hint_2 5 rfl rfl)
theorem dX2_hint_54 : decode cX2_hint 54 = .ok (.checkcast 93, 3) := dk_192 0 93 (dk_at dksX2_hint_2 8 rfl rfl)
theorem dX2_hint_57 : decode cX2_hint 57 = .ok (.iload_n 2, 1) := dk_28 (dk_at dksX2_hint_2 11 rfl rfl)
theorem dX2_hint_58 : decode cX2_hint 58 = .ok (.iload_n 3, 1) := dk_29 (dk_at dksX2_hint_2 12 rfl rfl)
theorem dX2_hint_59 : decode cX2_hint 59 = .ok (.invokevirtual 226, 3) := dk_182 0 226 (dk_at dksX2_hint_2 13 rfl rfl)
theorem dX2_hint_62 : decode cX2_hint 62 = .ok (.iinc 5 1, 3) := dk_132 5 1 (dk_at dksX2_hint_2 16 rfl rfl)
theorem dX2_hint_65 : decode cX2_hint 65 = .ok (.goto (-50), 3) := dk_167 255 206 (dk_at dksX2_hint_2 19 rfl rfl)
theorem dX2_hint_68 : decode cX2_hint 68 = .ok (.aload_n 0, 1) := dk_42 (dk_at dksX2_hint_2 22 rfl rfl)
theorem dX2_hint_69 : decode cX2_hint 69 = .ok (.dup, 1) := dk_89 (dk_at dksX2_hint_2 23 rfl rfl)
theorem dX2_hint_70 : decode cX2_hint 70 = .ok (.getfield 112, 3) := dk_180 0 112 (dk_at dksX2_hint_3 0 rfl rfl)
theorem dX2_hint_73 : decode cX2_hint 73 = .ok (.iconst 1, 1) := dk_4 (dk_at dksX2_hint_3 3 rfl rfl)
theorem dX2_hint_74 : decode cX2_hint 74 = .ok (.isub, 1) := dk_100 (dk_at dksX2_hint_3 4 rfl rfl)
theorem dX2_hint_75 : decode cX2_hint 75 = .ok (.putfield 112, 3) := dk_181 0 112 (dk_at dksX2_hint_3 5 rfl rfl)
theorem dX2_hint_78 : decode cX2_hint 78 = .ok (.aload_n 0, 1) := dk_42 (dk_at dksX2_hint_3 8 rfl rfl)
theorem dX2_hint_79 : decode cX2_hint 79 = .ok (.getfield 40, 3) := dk_180 0 40 (dk_at dksX2_hint_3 9 rfl rfl)
theorem dX2_hint_82 : decode cX2_hint 82 = .ok (.iload_n 2, 1) := dk_28 (dk_at dksX2_hint_3 12 rfl rfl)
theorem dX2_hint_83 : decode cX2_hint 83 = .ok (.aaload, 1) := dk_50 (dk_at dksX2_hint_3 13 rfl rfl)
theorem dX2_hint_84 : decode cX2_hint 84 = .ok (.iload_n 3, 1) := dk_29 (dk_at dksX2_hint_3 14 rfl rfl)
theorem dX2_hint_85 : decode cX2_hint 85 = .ok (.dup2, 1) := dk_92 (dk_at dksX2_hint_3 15 rfl rfl)
theorem dX2_hint_86 : decode cX2_hint 86 = .ok (.iaload, 1) := dk_46 (dk_at dksX2_hint_3 16 rfl rfl)
theorem dX2_hint_87 : decode cX2_hint 87 = .ok (.iconst 1, 1) := dk_4 (dk_at dksX2_hint_3 17 rfl rfl)
theorem dX2_hint_88 : decode cX2_hint 88 = .ok (.isub, 1) := dk_100 (dk_at dksX2_hint_3 18 rfl rfl)
theorem dX2_hint_89 : decode cX2_hint 89 = .ok (.iastore, 1) := dk_79 (dk_at dksX2_hint_3 19 rfl rfl)
theorem dX2_hint_90 : decode cX2_hint 90 = .ok (.aload_n 0, 1) := dk_42 (dk_at dksX2_hint_3 20 rfl rfl)
theorem dX2_hint_91 : decode cX2_hint 91 = .ok (.getfield 31, 3) := dk_180 0 31 (dk_at dksX2_hint_3 21 rfl rfl)
theorem dX2_hint_94 : decode cX2_hint 94 = .ok (.iconst 3, 1) := dk_6 (dk_at dksX2_hint_4 0 rfl rfl)
theorem dX2_hint_95 : decode cX2_hint 95 = .ok (.dup2, 1) := dk_92 (dk_at dksX2_hint_4 1 rfl rfl)
theorem dX2_hint_96 : decode cX2_hint 96 = .ok (.iaload, 1) := dk_46 (dk_at dksX2_hint_4 2 rfl rfl)
theorem dX2_hint_97 : decode cX2_hint 97 = .ok (.iconst 1, 1) := dk_4 (dk_at dksX2_hint_4 3 rfl rfl)
theorem dX2_hint_98 : decode cX2_hint 98 = .ok (.iadd, 1) := dk_96 (dk_at dksX2_hint_4 4 rfl rfl)
theorem dX2_hint_99 : decode cX2_hint 99 = .ok (.iastore, 1) := dk_79 (dk_at dksX2_hint_4 5 rfl rfl)
theorem dX2_hint_100 : decode cX2_hint 100 = .ok (.aload_n 0, 1) := dk_42 (dk_at dksX2_hint_4 6 rfl rfl)
theorem dX2_hint_101 : decode cX2_hint 101 = .ok (.getfield 31, 3) := dk_180 0 31 (dk_at dksX2_hint_4 7 rfl rfl)
theorem dX2_hint_104 : decode cX2_hint 104 = .ok (.iconst 5, 1) := dk_8 (dk_at dksX2_hint_4 10 rfl rfl)
theorem dX2_hint_105 : decode cX2_hint 105 = .ok (.dup2, 1) := dk_92 (dk_at dksX2_hint_4 11 rfl rfl)
theorem dX2_hint_106 : decode cX2_hint 106 = .ok (.iaload, 1) := dk_46 (dk_at dksX2_hint_4 12 rfl rfl)
theorem dX2_hint_107 : decode cX2_hint 107 = .ok (.iload 4, 2) := dk_21 4 (dk_at dksX2_hint_4 13 rfl rfl)
theorem dX2_hint_109 : decode cX2_hint 109 = .ok (.iadd, 1) := dk_96 (dk_at dksX2_hint_4 15 rfl rfl)
theorem dX2_hint_110 : decode cX2_hint 110 = .ok (.iastore, 1) := dk_79 (dk_at dksX2_hint_4 16 rfl rfl)
theorem dX2_hint_111 : decode cX2_hint 111 = .ok (.aload_n 0, 1) := dk_42 (dk_at dksX2_hint_4 17 rfl rfl)
theorem dX2_hint_112 : decode cX2_hint 112 = .ok (.iconst 2, 1) := dk_5 (dk_at dksX2_hint_4 18 rfl rfl)
theorem dX2_hint_113 : decode cX2_hint 113 = .ok (.iload_n 1, 1) := dk_27 (dk_at dksX2_hint_4 19 rfl rfl)
theorem dX2_hint_114 : decode cX2_hint 114 = .ok (.bipush 10, 2) := dk_16 10 (dk_at dksX2_hint_4 20 rfl rfl)
theorem dX2_hint_116 : decode cX2_hint 116 = .ok (.iload_n 2, 1) := dk_28 (dk_at dksX2_hint_4 22 rfl rfl)
theorem dX2_hint_117 : decode cX2_hint 117 = .ok (.imul, 1) := dk_104 (dk_at dksX2_hint_4 23 rfl rfl)
theorem dX2_hint_118 : decode cX2_hint 118 = .ok (.iload_n 3, 1) := dk_29 (dk_at dksX2_hint_5 0 rfl rfl)
theorem dX2_hint_119 : decode cX2_hint 119 = .ok (.iadd, 1) := dk_96 (dk_at dksX2_hint_5 1 rfl rfl)
theorem dX2_hint_120 : decode cX2_hint 120 = .ok (.iconst 0, 1) := dk_3 (dk_at dksX2_hint_5 2 rfl rfl)
theorem dX2_hint_121 : decode cX2_hint 121 = .ok (.invokevirtual 211, 3) := dk_182 0 211 (dk_at dksX2_hint_5 3 rfl rfl)
theorem dX2_hint_124 : decode cX2_hint 124 = .ok (.iload 4, 2) := dk_21 4 (dk_at dksX2_hint_5 6 rfl rfl)
theorem dX2_hint_126 : decode cX2_hint 126 = .ok (.ireturn, 1) := dk_172 (dk_at dksX2_hint_5 8 rfl rfl)
def dkwX2_score_1 : List UInt8 := [54, 5, 27, 21, 5, 96, 60, 132, 4, 1, 167, 255, 236, 27, 172]
abbrev dktX2_score_1 : List UInt8 := dkwX2_score_1 ++ []
def dkwX2_score_0 : List UInt8 := [3, 60, 42, 180, 0, 27, 77, 44, 190, 62, 3, 54, 4, 21, 4, 29, 162, 0, 20, 44, 21, 4, 46]
abbrev dktX2_score_0 : List UInt8 := dkwX2_score_0 ++ dktX2_score_1
theorem dksX2_score_0 : cX2_score.data.toList.drop 0 = dktX2_score_0 := by decide +kernel
theorem dksX2_score_1 : cX2_score.data.toList.drop 23 = dktX2_score_1 := dk_seg dksX2_score_0 23 rfl rfl
theorem dX2_score_0 : decode cX2_score 0 = .ok (.iconst 0, 1) := dk_3 (dk_at dksX2_score_0 0 rfl rfl)
theorem dX2_score_1 : decode cX2_score 1 = .ok (.istore_n 1, 1) := dk_60 (dk_at dksX2_score_0 1 rfl rfl)
theorem dX2_score_2 : decode cX2_score 2 = .ok (.aload_n 0, 1) := dk_42 (dk_at dksX2_score_0 2 rfl rfl)
theorem dX2_score_3 : decode cX2_score 3 = .ok (.getfield 27, 3) := dk_180 0 27 (dk_at dksX2_score_0 3 rfl rfl)
theorem dX2_score_6 : decode cX2_score 6 = .ok (.astore_n 2, 1) := dk_77 (dk_at dksX2_score_0 6 rfl rfl)
theorem dX2_score_7 : decode cX2_score 7 = .ok (.aload_n 2, 1) := dk_44 (dk_at dksX2_score_0 7 rfl rfl)
theorem dX2_score_8 : decode cX2_score 8 = .ok (.arraylength, 1) := dk_190 (dk_at dksX2_score_0 8 rfl rfl)
theorem dX2_score_9 : decode cX2_score 9 = .ok (.istore_n 3, 1) := dk_62 (dk_at dksX2_score_0 9 rfl rfl)
theorem dX2_score_10 : decode cX2_score 10 = .ok (.iconst 0, 1) := dk_3 (dk_at dksX2_score_0 10 rfl rfl)
theorem dX2_score_11 : decode cX2_score 11 = .ok (.istore 4, 2) := dk_54 4 (dk_at dksX2_score_0 11 rfl rfl)
theorem dX2_score_13 : decode cX2_score 13 = .ok (.iload 4, 2) := dk_21 4 (dk_at dksX2_score_0 13 rfl rfl)
theorem dX2_score_15 : decode cX2_score 15 = .ok (.iload_n 3, 1) := dk_29 (dk_at dksX2_score_0 15 rfl rfl)
theorem dX2_score_16 : decode cX2_score 16 = .ok (.if_icmp .ge 20, 3) := dk_162 0 20 (dk_at dksX2_score_0 16 rfl rfl)
theorem dX2_score_19 : decode cX2_score 19 = .ok (.aload_n 2, 1) := dk_44 (dk_at dksX2_score_0 19 rfl rfl)
theorem dX2_score_20 : decode cX2_score 20 = .ok (.iload 4, 2) := dk_21 4 (dk_at dksX2_score_0 20 rfl rfl)
theorem dX2_score_22 : decode cX2_score 22 = .ok (.iaload, 1) := dk_46 (dk_at dksX2_score_0 22 rfl rfl)
theorem dX2_score_23 : decode cX2_score 23 = .ok (.istore 5, 2) := dk_54 5 (dk_at dksX2_score_1 0 rfl rfl)
theorem dX2_score_25 : decode cX2_score 25 = .ok (.iload_n 1, 1) := dk_27 (dk_at dksX2_score_1 2 rfl rfl)
theorem dX2_score_26 : decode cX2_score 26 = .ok (.iload 5, 2) := dk_21 5 (dk_at dksX2_score_1 3 rfl rfl)
theorem dX2_score_28 : decode cX2_score 28 = .ok (.iadd, 1) := dk_96 (dk_at dksX2_score_1 5 rfl rfl)
theorem dX2_score_29 : decode cX2_score 29 = .ok (.istore_n 1, 1) := dk_60 (dk_at dksX2_score_1 6 rfl rfl)
theorem dX2_score_30 : decode cX2_score 30 = .ok (.iinc 4 1, 3) := dk_132 4 1 (dk_at dksX2_score_1 7 rfl rfl)
theorem dX2_score_33 : decode cX2_score 33 = .ok (.goto (-20), 3) := dk_167 255 236 (dk_at dksX2_score_1 10 rfl rfl)
theorem dX2_score_36 : decode cX2_score 36 = .ok (.iload_n 1, 1) := dk_27 (dk_at dksX2_score_1 13 rfl rfl)
theorem dX2_score_37 : decode cX2_score 37 = .ok (.ireturn, 1) := dk_172 (dk_at dksX2_score_1 14 rfl rfl)
def dkwX3_init_3 : List UInt8 := [180, 0, 37, 27, 50, 28, 16, 99, 79, 132, 2, 1, 167, 255, 238, 132, 1, 1, 167, 255, 225, 177]
abbrev dktX3_init_3 : List UInt8 := dkwX3_init_3 ++ []
def dkwX3_init_2 : List UInt8 := [16, 6, 197, 0, 35, 2, 181, 0, 37, 3, 60, 27, 4, 163, 0, 32, 3, 61, 28, 8, 163, 0, 19, 42]
abbrev dktX3_init_2 : List UInt8 := dkwX3_init_2 ++ dktX3_init_3
def dkwX3_init_1 : List UInt8 := [187, 0, 21, 89, 183, 0, 23, 181, 0, 24, 42, 187, 0, 28, 89, 183, 0, 30, 181, 0, 31, 42, 5]
abbrev dktX3_init_1 : List UInt8 := dkwX3_init_1 ++ dktX3_init_2
def dkwX3_init_0 : List UInt8 := [42, 183, 0, 3, 42, 16, 8, 181, 0, 9, 42, 16, 8, 181, 0, 15, 42, 6, 181, 0, 18, 42]
abbrev dktX3_init_0 : List UInt8 := dkwX3_init_0 ++ dktX3_init_1
theorem dksX3_init_0 : cX3_init.data.toList.drop 0 = dktX3_init_0 := by decide +kernel
theorem dksX3_init_1 : cX3_init.data.toList.drop 22 = dktX3_init_1 := dk_seg dksX3_init_0 22 rfl rfl
theorem dksX3_init_2 : cX3_init.data.toList.drop 45 = dktX3_init_2 := dk_seg dksX3_init_1 23 rfl rfl
theorem dksX3_init_3 : cX3_init.data.toList.drop 69 = dktX3_init_3 := dk_seg dksX3_init_2 24 rfl rfl
theorem dX3_init_0 : decode cX3_init 0 = .ok (.aload_n 0, 1) := dk_42 (dk_at dksX3_init_0 0 rfl rfl)
theorem dX3_init_1 : decode cX3_init 1 = .ok (.invokespecial 3, 3) := dk_183 0 3 (dk_at dksX3_init_0 1 rfl rfl)
theorem dX3_init_4 : decode cX3_init 4 = .ok (.aload_n 0, 1) := dk_42 (dk_at dksX3_init_0 4 rfl rfl)
theorem dX3_init_5 : decode cX3_init 5 = .ok (.bipush 8, 2) := dk_16 8 (dk_at dksX3_init_0 5 rfl rfl)
theorem dX3_init_7 : decode cX3_init 7 = .ok (.putfield 9, 3) := dk_181 0 9 (dk_at dksX3_init_0 7 rfl rfl)
theorem dX3_init_10 : decode cX3_init 10 = .ok (.aload_n 0, 1) := dk_42 (dk_at dksX3_init_0 10 rfl rfl)
theorem dX3_init_11 : decode cX3_init 11 = .ok (.bipush 8, 2) := dk_16 8 (dk_at dksX3_init_0 11 rfl rfl)
theorem dX3_init_13 : decode cX3_init 13 = .ok (.putfield 15, 3) := dk_181 0 15 (dk_at dksX3_init_0 13 rfl rfl)
theorem dX3_init_16 : decode cX3_init 16 = .ok (.aload_n 0, 1) := dk_42 (dk_at dksX3_init_0 16 rfl rfl)
theorem dX3_init_17 : decode cX3_init 17 = .ok (.iconst 3, 1) := dk_6 (dk_at dksX3_init_0 17 rfl rfl)
theorem dX3_init_18 : decode cX3_init 18 = .ok (.putfield 18, 3) := dk_181 0 18 (dk_at dksX3_init_0 18 rfl rfl)
theorem dX3_init_21 : decode cX3_init 21 = .ok (.aload_n 0, 1) := dk_42 (dk_at dksX3_init_0 21 rfl rfl)
theorem dX3_init_22 : decode cX3_init 22 = .ok (.new 21, 3) := dk_187 0 21 (dk_at dksX3_init_1 0 rfl rfl)
theorem dX3_init_25 : decode cX3_init 25 = .ok (.dup, 1) := dk_89 (dk_at dksX3_init_1 3 rfl rfl)
theorem dX3_init_26 : decode cX3_init 26 = .ok (.invokespecial 23, 3) := dk_183 0 23 (dk_at dksX3_init_1 4 rfl rfl)
theorem dX3_init_29 : decode cX3_init 29 = .ok (.putfield 24, 3) := dk_181 0 24 (dk_at dksX3_init_1 7 rfl rfl)
theorem dX3_init_32 : decode cX3_init 32 = .ok (.aload_n 0, 1) := dk_42 (dk_at dksX3_init_1 10 rfl rfl)
theorem dX3_init_33 : decode cX3_init 33 = .ok (.new 28, 3) := dk_187 0 28 (dk_at dksX3_init_1 11 rfl rfl)
theorem dX3_init_36 : decode cX3_init 36 = .ok (.dup, 1) := dk_89 (dk_at dksX3_init_1 14 rfl rfl)
theorem dX3_init_37 : decode cX3_init 37 = .ok (.invokespecial 30, 3) := dk_183 0 30 (dk_at dksX3_init_1 15 rfl rfl)
theorem dX3_init_40 : decode cX3_init 40 = .ok (.putfield 31, 3) := dk_181 0 31 (dk_at dksX3_init_1 18 rfl rfl)
theorem dX3_init_43 : decode cX3_init 43 = .ok (.aload_n 0, 1) := dk_42 (dk_at dksX3_init_1 21 rfl rfl)
theorem dX3_init_44 : decode cX3_init 44 = .ok (.iconst 2, 1) := dk_5 (dk_at dksX3_init_1 22 rfl rfl)
theorem dX3_init_45 : decode cX3_init 45 = .ok (.bipush 6, 2) := dk_16 6 (dk_at dksX3_init_2 0 rfl rfl)
theorem dX3_init_47 : decode cX3_init 47 = .ok (.multianewarray 35 2, 4) := by decide +kernel
theorem dX3_init_51 : decode cX3_init 51 = .ok (.putfield 37, 3) := dk_181 0 37 (dk_at dksX3_init_2 6 rfl rfl)
theorem dX3_init_54 : decode cX3_init 54 = .ok (.iconst 0, 1) := dk_3 (dk_at dksX3_init_2 9 rfl rfl)
theorem dX3_init_55 : decode cX3_init 55 = .ok (.istore_n 1, 1) := dk_60 (dk_at dksX3_init_2 10 rfl rfl)
theorem dX3_init_56 : decode cX3_init 56 = .ok (.iload_n 1, 1) := dk_27 (dk_at dksX3_init_2 11 rfl rfl)
theorem dX3_init_57 : decode cX3_init 57 = .ok (.iconst 1, 1) := dk_4 (dk_at dksX3_init_2 12 rfl rfl)
theorem dX3_init_58 : decode cX3_init 58 = .ok (.if_icmp .gt 32, 3) := dk_163 0 32 (dk_at dksX3_init_2 13 rfl rfl)
theorem dX3_init_61 : decode cX3_init 61 = .ok (.iconst 0, 1) := dk_3 (dk_at dksX3_init_2 16 rfl rfl)
theorem dX3_init_62 : decode cX3_init 62 = .ok (.istore_n 2, 1) := dk_61 (dk_at dksX3_init_2 17 rfl rfl)
theorem dX3_init_63 : decode cX3_init 63 = .ok (.iload_n 2, 1) := dk_28 (dk_at dksX3_init_2 18 rfl rfl)
theorem dX3_init_64 : decode cX3_init 64 = .ok (.iconst 5, 1) := dk_8 (dk_at dksX3_init_2 19 rfl rfl)
theorem dX3_init_65 : decode cX3_init 65 = .ok (.if_icmp .gt 19, 3) := dk_163 0 19 (dk_at dksX3_init_2 20 rfl rfl)
theorem dX3_init_68 : decode cX3_init 68 = .ok (.aload_n 0, 1) := dk_42 (dk_at dksX3_init_2 23 rfl rfl)
theorem dX3_init_69 : decode cX3_init 69 = .ok (.getfield 37, 3) := dk_180 0 37 (dk_at dksX3_init_3 0 rfl rfl)
theorem dX3_init_72 : decode cX3_init 72 = .ok (.iload_n 1, 1) := dk_27 (dk_at dksX3_init_3 3 rfl rfl)
theorem dX3_init_73 : decode cX3_init 73 = .ok (.aaload, 1) := dk_50 (dk_at dksX3_init_3 4 rfl rfl)
theorem dX3_init_74 : decode cX3_init 74 = .ok (.iload_n 2, 1) := dk_28 (dk_at dksX3_init_3 5 rfl rfl)
theorem dX3_init_75 : decode cX3_init 75 = .ok (.bipush 99, 2) := dk_16 99 (dk_at dksX3_init_3 6 rfl rfl)
theorem dX3_init_77 : decode cX3_init 77 = .ok (.iastore, 1) := dk_79 (dk_at dksX3_init_3 8 rfl rfl)
theorem dX3_init_78 : decode cX3_init 78 = .ok (.iinc 2 1, 3) := dk_132 2 1 (dk_at dksX3_init_3 9 rfl rfl)
theorem dX3_init_81 : decode cX3_init 81 = .ok (.goto (-18), 3) := dk_167 255 238 (dk_at dksX3_init_3 12 rfl rfl)
theorem dX3_init_84 : decode cX3_init 84 = .ok (.iinc 1 1, 3) := dk_132 1 1 (dk_at dksX3_init_3 15 rfl rfl)
theorem dX3_init_87 : decode cX3_init 87 = .ok (.goto (-31), 3) := dk_167 255 225 (dk_at dksX3_init_3 18 rfl rfl)
theorem dX3_init_90 : decode cX3_init 90 = .ok (.return_, 1) := dk_177 (dk_at dksX3_init_3 21 rfl rfl)
def dkwX3_firstValue_0 : List UInt8 := [27, 154, 0, 7, 3, 167, 0, 4, 4, 172]
abbrev dktX3_firstValue_0 : List UInt8 := dkwX3_firstValue_0 ++ []
theorem dksX3_firstValue_0 : cX3_firstValue.data.toList.drop 0 = dktX3_firstValue_0 := by decide +kernel
theorem dX3_firstValue_0 : decode cX3_firstValue 0 = .ok (.iload_n 1, 1) := dk_27 (dk_at dksX3_firstValue_0 0 rfl rfl)
theorem dX3_firstValue_1 : decode cX3_firstValue 1 = .ok (.ifCond .ne 7, 3) := dk_154 0 7 (dk_at dksX3_firstValue_0 1 rfl rfl)
theorem dX3_firstValue_4 : decode cX3_firstValue 4 = .ok (.iconst 0, 1) := dk_3 (dk_at dksX3_firstValue_0 4 rfl rfl)
theorem dX3_firstValue_5 : decode cX3_firstValue 5 = .ok (.goto 4, 3) := dk_167 0 4 (dk_at dksX3_firstValue_0 5 rfl rfl)
theorem dX3_firstValue_8 : decode cX3_firstValue 8 = .ok (.iconst 1, 1) := dk_4 (dk_at dksX3_firstValue_0 8 rfl rfl)
theorem dX3_firstValue_9 : decode cX3_firstValue 9 = .ok (.ireturn, 1) := dk_172 (dk_at dksX3_firstValue_0 9 rfl rfl)
def dkwX3_lastValue_0 : List UInt8 := [27, 154, 0, 12, 42, 180, 0, 79, 4, 100, 167, 0, 7, 42, 180, 0, 82, 172]
abbrev dktX3_lastValue_0 : List UInt8 := dkwX3_lastValue_0 ++ []
theorem dksX3_lastValue_0 : cX3_lastValue.data.toList.drop 0 = dktX3_lastValue_0 := by decide +kernel
theorem dX3_lastValue_0 : decode cX3_lastValue 0 = .ok (.iload_n 1, 1) := dk_27 (dk_at dksX3_lastValue_0 0 rfl rfl)
theorem dX3_lastValue_1 : decode cX3_lastValue 1 = .ok (.ifCond .ne 12, 3) := dk_154 0 12 (dk_at dksX3_lastValue_0 1 rfl rfl)
theorem dX3_lastValue_4 : decode cX3_lastValue 4 = .ok (.aload_n 0, 1) := dk_42 (dk_at dksX3_lastValue_0 4 rfl rfl)
theorem dX3_lastValue_5 : decode cX3_lastValue 5 = .ok (.getfield 79, 3) := dk_180 0 79 (dk_at dksX3_lastValue_0 5 rfl rfl)
theorem dX3_lastValue_8 : decode cX3_lastValue 8 = .ok (.iconst 1, 1) := dk_4 (dk_at dksX3_lastValue_0 8 rfl rfl)
theorem dX3_lastValue_9 : decode cX3_lastValue 9 = .ok (.isub, 1) := dk_100 (dk_at dksX3_lastValue_0 9 rfl rfl)
theorem dX3_lastValue_10 : decode cX3_lastValue 10 = .ok (.goto 7, 3) := dk_167 0 7 (dk_at dksX3_lastValue_0 10 rfl rfl)
theorem dX3_lastValue_13 : decode cX3_lastValue 13 = .ok (.aload_n 0, 1) := dk_42 (dk_at dksX3_lastValue_0 13 rfl rfl)
theorem dX3_lastValue_14 : decode cX3_lastValue 14 = .ok (.getfield 82, 3) := dk_180 0 82 (dk_at dksX3_lastValue_0 14 rfl rfl)
theorem dX3_lastValue_17 : decode cX3_lastValue 17 = .ok (.ireturn, 1) := dk_172 (dk_at dksX3_lastValue_0 17 rfl rfl)
def dkwX3_counts_3 : List UInt8 := [182, 0, 72, 4, 96, 184, 0, 62, 182, 0, 75, 192, 0, 63, 78, 167, 255, 184, 177]
abbrev dktX3_counts_3 : List UInt8 := dkwX3_counts_3 ++ []
def dkwX3_counts_2 : List UInt8 := [192, 0, 63, 78, 42, 180, 0, 31, 44, 182, 0, 58, 184, 0, 62, 45, 199, 0, 7, 4, 167, 0, 9, 45]
abbrev dktX3_counts_2 : List UInt8 := dkwX3_counts_2 ++ dktX3_counts_3
def dkwX3_counts_1 : List UInt8 := [185, 0, 52, 1, 0, 192, 0, 56, 77, 42, 180, 0, 31, 44, 182, 0, 58, 184, 0, 62, 182, 0, 68]
abbrev dktX3_counts_1 : List UInt8 := dkwX3_counts_1 ++ dktX3_counts_2
def dkwX3_counts_0 : List UInt8 := [42, 180, 0, 24, 185, 0, 40, 1, 0, 76, 43, 185, 0, 46, 1, 0, 153, 0, 69, 43]
abbrev dktX3_counts_0 : List UInt8 := dkwX3_counts_0 ++ dktX3_counts_1
theorem dksX3_counts_0 : cX3_counts.data.toList.drop 0 = dktX3_counts_0 := by decide +kernel
theorem dksX3_counts_1 : cX3_counts.data.toList.drop 20 = dktX3_counts_1 := dk_seg dksX3_counts_0 20 rfl rfl
theorem dksX3_counts_2 : cX3_counts.data.toList.drop 43 = dktX3_counts_2 := dk_seg dksX3_counts_1 23 rfl rfl
theorem dksX3_counts_3 : cX3_counts.data.toList.drop 67 = dktX3_counts_3 := dk_seg dksX3_counts_2 24 rfl rfl
theorem dX3_counts_0 : decode cX3_counts 0 = .ok (.aload_n 0, 1) := dk_42 (dk_at dksX3_counts_0 0 rfl rfl)
theorem dX3_counts_1 : decode cX3_counts 1 = .ok (.getfield 24, 3) := dk_180 0 24 (dk_at dksX3_counts_0 1 rfl rfl)
theorem dX3_counts_4 : decode cX3_counts 4 = .ok (.invokeinterface 40 1, 5) := by decide +kernel
theorem dX3_counts_9 : decode cX3_counts 9 = .ok (.astore_n 1, 1) := dk_76 (dk_at dksX3_counts_0 9 rfl rfl)
theorem dX3_counts_10 : decode cX3_counts 10 = .ok (.aload_n 1, 1) := dk_43 (dk_at dksX3_counts_0 10 rfl rfl)
theorem dX3_counts_11 : decode cX3_counts 11 = .ok (.invokeinterface 46 1, 5) := by decide +kernel
theorem dX3_counts_16 : decode cX3_counts 16 = .ok (.ifCond .eq 69, 3) := dk_153 0 69 (dk_at dksX3_counts_0 16 rfl rfl)
theorem dX3_counts_19 : decode cX3_counts 19 = .ok (.aload_n 1, 1) := dk_43 (dk_at dksX3_counts_0 19 rfl rfl)
theorem dX3_counts_20 : decode cX3_counts 20 = .ok (.invokeinterface 52 1, 5) := by decide +kernel
theorem dX3_counts_25 : decode cX3_counts 25 = .ok (.checkcast 56, 3) := dk_192 0 56 (dk_at dksX3_counts_1 5 rfl rfl)
theorem dX3_counts_28 : decode cX3_counts 28 = .ok (.astore_n 2, 1) := dk_77 (dk_at dksX3_counts_1 8 rfl rfl)
theorem dX3_counts_29 : decode cX3_counts 29 = .ok (.aload_n 0, 1) := dk_42 (dk_at dksX3_counts_1 9 rfl rfl)
theorem dX3_counts_30 : decode cX3_counts 30 = .ok (.getfield 31, 3) := dk_180 0 31 (dk_at dksX3_counts_1 10 rfl rfl)
theorem dX3_counts_33 : decode cX3_counts 33 = .ok (.aload_n 2, 1) := dk_44 (dk_at dksX3_counts_1 13 rfl rfl)
theorem dX3_counts_34 : decode cX3_counts 34 = .ok (.invokevirtual 58, 3) := dk_182 0 58 (dk_at dksX3_counts_1 14 rfl rfl)
theorem dX3_counts_37 : decode cX3_counts 37 = .ok (.invokestatic 62, 3) := dk_184 0 62 (dk_at dksX3_counts_1 17 rfl rfl)
theorem dX3_counts_40 : decode cX3_counts 40 = .ok (.invokevirtual 68, 3) := dk_182 0 68 (dk_at dksX3_counts_1 20 rfl rfl)
theorem dX3_counts_43 : decode cX3_counts 43 = .ok (.checkcast 63, 3) := dk_192 0 63 (dk_at dksX3_counts_2 0 rfl rfl)
theorem dX3_counts_46 : decode cX3_counts 46 = .ok (.astore_n 3, 1) := dk_78 (dk_at dksX3_counts_2 3 rfl rfl)
theorem dX3_counts_47 : decode cX3_counts 47 = .ok (.aload_n 0, 1) := dk_42 (dk_at dksX3_counts_2 4 rfl rfl)
theorem dX3_counts_48 : decode cX3_counts 48 = .ok (.getfield 31, 3) := dk_180 0 31 (dk_at dksX3_counts_2 5 rfl rfl)
theorem dX3_counts_51 : decode cX3_counts 51 = .ok (.aload_n 2, 1) := dk_44 (dk_at dksX3_counts_2 8 rfl rfl)
theorem dX3_counts_52 : decode cX3_counts 52 = .ok (.invokevirtual 58, 3) := dk_182 0 58 (dk_at dksX3_counts_2 9 rfl rfl)
theorem dX3_counts_55 : decode cX3_counts 55 = .ok (.invokestatic 62, 3) := dk_184 0 62 (dk_at dksX3_counts_2 12 rfl rfl)
theorem dX3_counts_58 : decode cX3_counts 58 = .ok (.aload_n 3, 1) := dk_45 (dk_at dksX3_counts_2 15 rfl rfl)
theorem dX3_counts_59 : decode cX3_counts 59 = .ok (.ifnonnull 7, 3) := dk_199 0 7 (dk_at dksX3_counts_2 16 rfl rfl)
theorem dX3_counts_62 : decode cX3_counts 62 = .ok (.iconst 1, 1) := dk_4 (dk_at dksX3_counts_2 19 rfl rfl)
theorem dX3_counts_63 : decode cX3_counts 63 = .ok (.goto 9, 3) := dk_167 0 9 (dk_at dksX3_counts_2 20 rfl rfl)
theorem dX3_counts_66 : decode cX3_counts 66 = .ok (.aload_n 3, 1) := dk_45 (dk_at dksX3_counts_2 23 rfl rfl)
theorem dX3_counts_67 : decode cX3_counts 67 = .ok (.invokevirtual 72, 3) := dk_182 0 72 (dk_at dksX3_counts_3 0 rfl rfl)
theorem dX3_counts_70 : decode cX3_counts 70 = .ok (.iconst 1, 1) := dk_4 (dk_at dksX3_counts_3 3 rfl rfl)
theorem dX3_counts_71 : decode cX3_counts 71 = .ok (.iadd, 1) := dk_96 (dk_at dksX3_counts_3 4 rfl rfl)
theorem dX3_counts_72 : decode cX3_counts 72 = .ok (.invokestatic 62, 3) := dk_184 0 62 (dk_at dksX3_counts_3 5 rfl rfl)
theorem dX3_counts_75 : decode cX3_counts 75 = .ok (.invokevirtual 75, 3) := dk_182 0 75 (dk_at dksX3_counts_3 8 rfl rfl)
theorem dX3_counts_78 : decode cX3_counts 78 = .ok (.checkcast 63, 3) := dk_192 0 63 (dk_at dksX3_counts_3 11 rfl rfl)
theorem dX3_counts_81 : decode cX3_counts 81 = .ok (.astore_n 3, 1) := dk_78 (dk_at dksX3_counts_3 14 rfl rfl)
theorem dX3_counts_82 : decode cX3_counts 82 = .ok (.goto (-72), 3) := dk_167 255 184 (dk_at dksX3_counts_3 15 rfl rfl)
theorem dX3_counts_85 : decode cX3_counts 85 = .ok (.return_, 1) := dk_177 (dk_at dksX3_counts_3 18 rfl rfl)
def dkwX3_copiesOf_1 : List UInt8 := [3, 167, 0, 7, 45, 182, 0, 72, 172]
abbrev dktX3_copiesOf_1 : List UInt8 := dkwX3_copiesOf_1 ++ []
def dkwX3_copiesOf_0 : List UInt8 := [42, 180, 0, 31, 16, 10, 27, 104, 28, 96, 184, 0, 62, 182, 0, 68, 192, 0, 63, 78, 45, 199, 0, 7]
abbrev dktX3_copiesOf_0 : List UInt8 := dkwX3_copiesOf_0 ++ dktX3_copiesOf_1
theorem dksX3_copiesOf_0 : cX3_copiesOf.data.toList.drop 0 = dktX3_copiesOf_0 := by decide +kernel
theorem dksX3_copiesOf_1 : cX3_copiesOf.data.toList.drop 24 = dktX3_copiesOf_1 := dk_seg dksX3_copiesOf_0 24 rfl rfl
theorem dX3_copiesOf_0 : decode cX3_copiesOf 0 = .ok (.aload_n 0, 1) := dk_42 (dk_at dksX3_copiesOf_0 0 rfl rfl)
theorem dX3_copiesOf_1 : decode cX3_copiesOf 1 = .ok (.getfield 31, 3) := dk_180 0 31 (dk_at dksX3_copiesOf_0 1 rfl rfl)
theorem dX3_copiesOf_4 : decode cX3_copiesOf 4 = .ok (.bipush 10, 2) := dk_16 10 (dk_at dksX3_copiesOf_0 4 rfl rfl)
theorem dX3_copiesOf_6 : decode cX3_copiesOf 6 = .ok (.iload_n 1, 1) := dk_27 (dk_at dksX3_copiesOf_0 6 rfl rfl)
theorem dX3_copiesOf_7 : decode cX3_copiesOf 7 = .ok (.imul, 1) := dk_104 (dk_at dksX3_copiesOf_0 7 rfl rfl)
theorem dX3_copiesOf_8 : decode cX3_copiesOf 8 = .ok (.iload_n 2, 1) := dk_28 (dk_at dksX3_copiesOf_0 8 rfl rfl)
theorem dX3_copiesOf_9 : decode cX3_copiesOf 9 = .ok (.iadd, 1) := dk_96 (dk_at dksX3_copiesOf_0 9 rfl rfl)
theorem dX3_copiesOf_10 : decode cX3_copiesOf 10 = .ok (.invokestatic 62, 3) := dk_184 0 62 (dk_at dksX3_copiesOf_0 10 rfl rfl)
theorem dX3_copiesOf_13 : decode cX3_copiesOf 13 = .ok (.invokevirtual 68, 3) := dk_182 0 68 (dk_at dksX3_copiesOf_0 13 rfl rfl)
theorem dX3_copiesOf_16 : decode cX3_copiesOf 16 = .ok (.checkcast 63, 3) := dk_192 0 63 (dk_at dksX3_copiesOf_0 16 rfl rfl)
theorem dX3_copiesOf_19 : decode cX3_copiesOf 19 = .ok (.astore_n 3, 1) := dk_78 (dk_at dksX3_copiesOf_0 19 rfl rfl)
theorem dX3_copiesOf_20 : decode cX3_copiesOf 20 = .ok (.aload_n 3, 1) := dk_45 (dk_at dksX3_copiesOf_0 20 rfl rfl)
theorem dX3_copiesOf_21 : decode cX3_copiesOf 21 = .ok (.ifnonnull 7, 3) := dk_199 0 7 (dk_at dksX3_copiesOf_0 21 rfl rfl)
theorem dX3_copiesOf_24 : decode cX3_copiesOf 24 = .ok (.iconst 0, 1) := dk_3 (dk_at dksX3_copiesOf_1 0 rfl rfl)
theorem dX3_copiesOf_25 : decode cX3_copiesOf 25 = .ok (.goto 7, 3) := dk_167 0 7 (dk_at dksX3_copiesOf_1 1 rfl rfl)
theorem dX3_copiesOf_28 : decode cX3_copiesOf 28 = .ok (.aload_n 3, 1) := dk_45 (dk_at dksX3_copiesOf_1 4 rfl rfl)
theorem dX3_copiesOf_29 : decode cX3_copiesOf 29 = .ok (.invokevirtual 72, 3) := dk_182 0 72 (dk_at dksX3_copiesOf_1 5 rfl rfl)
theorem dX3_copiesOf_32 : decode cX3_copiesOf 32 = .ok (.ireturn, 1) := dk_172 (dk_at dksX3_copiesOf_1 8 rfl rfl)
def dkwX3_isWord_1 : List UInt8 := [184, 0, 85, 153, 0, 7, 4, 167, 0, 4, 3, 172]
abbrev dktX3_isWord_1 : List UInt8 := dkwX3_isWord_1 ++ []
def dkwX3_isWord_0 : List UInt8 := [27, 133, 9, 10, 184, 0, 85, 153, 0, 27, 28, 133, 42, 27, 182, 0, 89, 133, 42, 27, 182, 0, 93, 133]
abbrev dktX3_isWord_0 : List UInt8 := dkwX3_isWord_0 ++ dktX3_isWord_1
theorem dksX3_isWord_0 : cX3_isWord.data.toList.drop 0 = dktX3_isWord_0 := by decide +kernel
theorem dksX3_isWord_1 : cX3_isWord.data.toList.drop 24 = dktX3_isWord_1 := dk_seg dksX3_isWord_0 24 rfl rfl
theorem dX3_isWord_0 : decode cX3_isWord 0 = .ok (.iload_n 1, 1) := dk_27 (dk_at dksX3_isWord_0 0 rfl rfl)
theorem dX3_isWord_1 : decode cX3_isWord 1 = .ok (.i2l, 1) := dk_133 (dk_at dksX3_isWord_0 1 rfl rfl)
theorem dX3_isWord_2 : decode cX3_isWord 2 = .ok (.lconst 0, 1) := dk_9 (dk_at dksX3_isWord_0 2 rfl rfl)
theorem dX3_isWord_3 : decode cX3_isWord 3 = .ok (.lconst 1, 1) := dk_10 (dk_at dksX3_isWord_0 3 rfl rfl)
theorem dX3_isWord_4 : decode cX3_isWord 4 = .ok (.invokestatic 85, 3) := dk_184 0 85 (dk_at dksX3_isWord_0 4 rfl rfl)
theorem dX3_isWord_7 : decode cX3_isWord 7 = .ok (.ifCond .eq 27, 3) := dk_153 0 27 (dk_at dksX3_isWord_0 7 rfl rfl)
theorem dX3_isWord_10 : decode cX3_isWord 10 = .ok (.iload_n 2, 1) := dk_28 (dk_at dksX3_isWord_0 10 rfl rfl)
theorem dX3_isWord_11 : decode cX3_isWord 11 = .ok (.i2l, 1) := dk_133 (dk_at dksX3_isWord_0 11 rfl rfl)
theorem dX3_isWord_12 : decode cX3_isWord 12 = .ok (.aload_n 0, 1) := dk_42 (dk_at dksX3_isWord_0 12 rfl rfl)
theorem dX3_isWord_13 : decode cX3_isWord 13 = .ok (.iload_n 1, 1) := dk_27 (dk_at dksX3_isWord_0 13 rfl rfl)
theorem dX3_isWord_14 : decode cX3_isWord 14 = .ok (.invokevirtual 89, 3) := dk_182 0 89 (dk_at dksX3_isWord_0 14 rfl rfl)
theorem dX3_isWord_17 : decode cX3_isWord 17 = .ok (.i2l, 1) := dk_133 (dk_at dksX3_isWord_0 17 rfl rfl)
theorem dX3_isWord_18 : decode cX3_isWord 18 = .ok (.aload_n 0, 1) := dk_42 (dk_at dksX3_isWord_0 18 rfl rfl)
theorem dX3_isWord_19 : decode cX3_isWord 19 = .ok (.iload_n 1, 1) := dk_27 (dk_at dksX3_isWord_0 19 rfl rfl)
theorem dX3_isWord_20 : decode cX3_isWord 20 = .ok (.invokevirtual 93, 3) := dk_182 0 93 (dk_at dksX3_isWord_0 20 rfl rfl)
theorem dX3_isWord_23 : decode cX3_isWord 23 = .ok (.i2l, 1) := dk_133 (dk_at dksX3_isWord_0 23 rfl rfl)
theorem dX3_isWord_24 : decode cX3_isWord 24 = .ok (.invokestatic 85, 3) := dk_184 0 85 (dk_at dksX3_isWord_1 0 rfl rfl)
theorem dX3_isWord_27 : decode cX3_isWord 27 = .ok (.ifCond .eq 7, 3) := dk_153 0 7 (dk_at dksX3_isWord_1 3 rfl rfl)
theorem dX3_isWord_30 : decode cX3_isWord 30 = .ok (.iconst 1, 1) := dk_4 (dk_at dksX3_isWord_1 6 rfl rfl)
theorem dX3_isWord_31 : decode cX3_isWord 31 = .ok (.goto 4, 3) := dk_167 0 4 (dk_at dksX3_isWord_1 7 rfl rfl)
theorem dX3_isWord_34 : decode cX3_isWord 34 = .ok (.iconst 0, 1) := dk_3 (dk_at dksX3_isWord_1 10 rfl rfl)
theorem dX3_isWord_35 : decode cX3_isWord 35 = .ok (.ireturn, 1) := dk_172 (dk_at dksX3_isWord_1 11 rfl rfl)
def dkwX4_init_0 : List UInt8 := [42, 43, 181, 0, 3, 42, 183, 0, 9, 177]
abbrev dktX4_init_0 : List UInt8 := dkwX4_init_0 ++ []
theorem dksX4_init_0 : cX4_init.data.toList.drop 0 = dktX4_init_0 := by decide +kernel
theorem dX4_init_0 : decode cX4_init 0 = .ok (.aload_n 0, 1) := dk_42 (dk_at dksX4_init_0 0 rfl rfl)
theorem dX4_init_1 : decode cX4_init 1 = .ok (.aload_n 1, 1) := dk_43 (dk_at dksX4_init_0 1 rfl rfl)
theorem dX4_init_2 : decode cX4_init 2 = .ok (.putfield 3, 3) := dk_181 0 3 (dk_at dksX4_init_0 2 rfl rfl)
theorem dX4_init_5 : decode cX4_init 5 = .ok (.aload_n 0, 1) := dk_42 (dk_at dksX4_init_0 5 rfl rfl)
theorem dX4_init_6 : decode cX4_init 6 = .ok (.invokespecial 9, 3) := dk_183 0 9 (dk_at dksX4_init_0 6 rfl rfl)
theorem dX4_init_9 : decode cX4_init 9 = .ok (.return_, 1) := dk_177 (dk_at dksX4_init_0 9 rfl rfl)
theorem dX4_part_0 : decode cX4_part 0 = .ok (.iconst (-1), 1) := by decide +kernel
theorem dX4_part_1 : decode cX4_part 1 = .ok (.ireturn, 1) := by decide +kernel
def dkwX5_init_0 : List UInt8 := [42, 43, 181, 0, 3, 42, 43, 183, 0, 9, 177]
abbrev dktX5_init_0 : List UInt8 := dkwX5_init_0 ++ []
theorem dksX5_init_0 : cX5_init.data.toList.drop 0 = dktX5_init_0 := by decide +kernel
theorem dX5_init_0 : decode cX5_init 0 = .ok (.aload_n 0, 1) := dk_42 (dk_at dksX5_init_0 0 rfl rfl)
theorem dX5_init_1 : decode cX5_init 1 = .ok (.aload_n 1, 1) := dk_43 (dk_at dksX5_init_0 1 rfl rfl)
theorem dX5_init_2 : decode cX5_init 2 = .ok (.putfield 3, 3) := dk_181 0 3 (dk_at dksX5_init_0 2 rfl rfl)
theorem dX5_init_5 : decode cX5_init 5 = .ok (.aload_n 0, 1) := dk_42 (dk_at dksX5_init_0 5 rfl rfl)
theorem dX5_init_6 : decode cX5_init 6 = .ok (.aload_n 1, 1) := dk_43 (dk_at dksX5_init_0 6 rfl rfl)
theorem dX5_init_7 : decode cX5_init 7 = .ok (.invokespecial 9, 3) := dk_183 0 9 (dk_at dksX5_init_0 7 rfl rfl)
theorem dX5_init_10 : decode cX5_init 10 = .ok (.return_, 1) := dk_177 (dk_at dksX5_init_0 10 rfl rfl)
def dkwX5_run_0 : List UInt8 := [42, 180, 0, 3, 180, 0, 15, 182, 0, 19, 177]
abbrev dktX5_run_0 : List UInt8 := dkwX5_run_0 ++ []
theorem dksX5_run_0 : cX5_run.data.toList.drop 0 = dktX5_run_0 := by decide +kernel
theorem dX5_run_0 : decode cX5_run 0 = .ok (.aload_n 0, 1) := dk_42 (dk_at dksX5_run_0 0 rfl rfl)
theorem dX5_run_1 : decode cX5_run 1 = .ok (.getfield 3, 3) := dk_180 0 3 (dk_at dksX5_run_0 1 rfl rfl)
theorem dX5_run_4 : decode cX5_run 4 = .ok (.getfield 15, 3) := dk_180 0 15 (dk_at dksX5_run_0 4 rfl rfl)
theorem dX5_run_7 : decode cX5_run 7 = .ok (.invokevirtual 19, 3) := dk_182 0 19 (dk_at dksX5_run_0 7 rfl rfl)
theorem dX5_run_10 : decode cX5_run 10 = .ok (.return_, 1) := dk_177 (dk_at dksX5_run_0 10 rfl rfl)
theorem dX5_kind_0 : decode cX5_kind 0 = .ok (.iconst 3, 1) := by decide +kernel
theorem dX5_kind_1 : decode cX5_kind 1 = .ok (.ireturn, 1) := by decide +kernel
theorem b_X10_color_0 {G : Wd} {l : Launch} {d : Nat} {post : Option Value → VH → Prop} {xp : Nat → VH → Prop} {V : Nat → List (Nat × VT) → List Value → VH → Prop} {XV : Nat → List (Nat × VT) → Nat → VH → Prop} (C : Ctx G l d mX10_color post xp V XV) {a0 : Nat} {h : VH}
    (f : (kd h a0 = 17) ∧ (post (some (.int (gI h 641 a0))) h)) : V 0 [(0, vR a0)] [] h := by
  obtain ⟨p, e, R, s, m, args, below, meth, c, Q, ⟨hx, hb, hr, hlk, hml, hown, hk, hRr, htb, hnm, hsB, htr, hQ⟩, hV, hX⟩ := C
  rw [hV]
  intro H locs ls hR hL hl
  have hb : c.code = cX10_color := hb
  have hr : meth.sig.returnType = some .int := hr
  have hml : c.maxLocals = 1 := hml
  have hown : s.vm.findClass RX10 = some m.cls := hown
  have hl : lv_has ls 1 (lm [(0, vR a0)]) := hl
  have hsz : ls.size = c.maxLocals := hl.1.trans hml.symm
  subst hQ
  refine w_aload_n hx hb dX10_color_0 rfl (lv_v hl (k := 0) rfl rfl) ?_
  obtain ⟨f1, f⟩ := f
  refine w_get (i := 16) (k := 1) (v := .int (gI h 641 a0)) hx hb hown hk hR clk_X10 f1 (by decide) (by decide) q1156 (fun _ h9 => h9) rfl dX10_color_1 ?_
  exact w_iret hx hb hr hlk hR hL dX10_color_4 f
theorem t_X10_color {G : Wd} {l : Launch} {d : Nat} {post : Option Value → VH → Prop} {xp : Nat → VH → Prop} {a0 : Nat} {h : VH} (hd : 9 ≤ d)
    (f : (kd h a0 = 17) ∧ (post (some (.int (gI h 641 a0))) h)) : D G l d mX10_color [vR a0] h post xp := D_in hd rfl rfl fun V XV C => b_X10_color_0 C f
theorem b_X10_id_0 {G : Wd} {l : Launch} {d : Nat} {post : Option Value → VH → Prop} {xp : Nat → VH → Prop} {V : Nat → List (Nat × VT) → List Value → VH → Prop} {XV : Nat → List (Nat × VT) → Nat → VH → Prop} (C : Ctx G l d mX10_id post xp V XV) {a0 : Nat} {h : VH}
    (f : (kd h a0 = 17) ∧ (post (some (.int (gI h 640 a0))) h)) : V 0 [(0, vR a0)] [] h := by
  obtain ⟨p, e, R, s, m, args, below, meth, c, Q, ⟨hx, hb, hr, hlk, hml, hown, hk, hRr, htb, hnm, hsB, htr, hQ⟩, hV, hX⟩ := C
  rw [hV]
  intro H locs ls hR hL hl
  have hb : c.code = cX10_id := hb
  have hr : meth.sig.returnType = some .int := hr
  have hml : c.maxLocals = 1 := hml
  have hown : s.vm.findClass RX10 = some m.cls := hown
  have hl : lv_has ls 1 (lm [(0, vR a0)]) := hl
  have hsz : ls.size = c.maxLocals := hl.1.trans hml.symm
  subst hQ
  refine w_aload_n hx hb dX10_id_0 rfl (lv_v hl (k := 0) rfl rfl) ?_
  obtain ⟨f1, f⟩ := f
  refine w_get (i := 16) (k := 0) (v := .int (gI h 640 a0)) hx hb hown hk hR clk_X10 f1 (by decide) (by decide) q1155 (fun _ h9 => h9) rfl dX10_id_1 ?_
  exact w_iret hx hb hr hlk hR hL dX10_id_4 f
theorem t_X10_id {G : Wd} {l : Launch} {d : Nat} {post : Option Value → VH → Prop} {xp : Nat → VH → Prop} {a0 : Nat} {h : VH} (hd : 9 ≤ d)
    (f : (kd h a0 = 17) ∧ (post (some (.int (gI h 640 a0))) h)) : D G l d mX10_id [vR a0] h post xp := D_in hd rfl rfl fun V XV C => b_X10_id_0 C f
theorem b_X10_init_0 {G : Wd} {l : Launch} {d : Nat} {post : Option Value → VH → Prop} {xp : Nat → VH → Prop} {V : Nat → List (Nat × VT) → List Value → VH → Prop} {XV : Nat → List (Nat × VT) → Nat → VH → Prop} (C : Ctx G l d mX10_init post xp V XV) {i1 i2 i3 : Int32} {a0 : Nat} {h : VH}
    (f : a0 ≠ 0 ∧ D G l d mJ24_init [vR a0] h (fun v h1 => v = none ∧ ((kd h1 a0 = 17) ∧ (∀ h2 : VH, h2 = sI h1 640 a0 i1 → ((kd h2 a0 = 17) ∧ (∀ h3 : VH, h3 = sI h2 641 a0 i2 → ((kd h3 a0 = 17) ∧ (∀ h4 : VH, h4 = sI h3 642 a0 i3 → (post none h4)))))))) xp) : V 0 [(0, vR a0), (1, vI i1), (2, vI i2), (3, vI i3)] [] h := by
  obtain ⟨p, e, R, s, m, args, below, meth, c, Q, ⟨hx, hb, hr, hlk, hml, hown, hk, hRr, htb, hnm, hsB, htr, hQ⟩, hV, hX⟩ := C
  rw [hV]
  intro H locs ls hR hL hl
  have hb : c.code = cX10_init := hb
  have hr : meth.sig.returnType = none := hr
  have hml : c.maxLocals = 4 := hml
  have hown : s.vm.findClass RX10 = some m.cls := hown
  have hl : lv_has ls 4 (lm [(0, vR a0), (1, vI i1), (2, vI i2), (3, vI i3)]) := hl
  have hsz : ls.size = c.maxLocals := hl.1.trans hml.symm
  subst hQ
  refine w_aload_n hx hb dX10_init_0 rfl (lv_v hl (k := 0) rfl rfl) ?_
  refine w_call (mi := mJ24_init) (As := [vR a0]) (rest := []) (len := 3) hk hR hL hsz hsB htr hRr (cok_I (argsL := []) hx hb hown hk f.1 rfl q1151 q1152 q1153 kJ24_init.1 kJ24_init.2 rfl dX10_init_1) f.2 wJ24_init iJ24_init (by decide) (cat_sum _ (Nat.le_of_ble_eq_true rfl)) rfl (fun v h1 H locs f hR hL => ?_) (fun q h9 H locs hp hR hL => x_out hown hlk hR hL (fun x9 h9 => by rw [htb] at h9; exact absurd h9 List.not_mem_nil) ⟨hp.1, hp.2.1⟩ hp.2.2)
  obtain ⟨rfl, f⟩ := f
  show Wn p l e R s m args below meth c H locs _ (F0 m 4 ls [])
  refine w_aload_n hx hb dX10_init_4 rfl (lv_v hl (k := 0) rfl rfl) ?_
  refine lv_iload_n hx hb dX10_init_5 rfl (lv_v hl (k := 1) rfl rfl) ?_
  obtain ⟨f1, f⟩ := f
  refine w_putF (i := 16) (k := 0) (c1 := cI (h1.1 a0) 640 i1) hx hb hown hk hR hL clk_X10 f1 (by decide) (by decide) q1155 (fun _ h9 => h9) rfl hnm rfl ⟨rfl, rfl⟩ rfl (pvI clk_X10 (by decide) rfl rfl) dX10_init_6 (fun H locs hR hL => ?_)
  obtain ⟨h2, eh2⟩ : ∃ z : VH, z = sI h1 640 a0 i1 := ⟨_, rfl⟩
  have hR : Rp G h2 H := by rw [eh2]; exact hR
  have f := f h2 eh2
  refine w_aload_n hx hb dX10_init_9 rfl (lv_v hl (k := 0) rfl rfl) ?_
  refine lv_iload_n hx hb dX10_init_10 rfl (lv_v hl (k := 2) rfl rfl) ?_
  obtain ⟨f1, f⟩ := f
  refine w_putF (i := 16) (k := 1) (c1 := cI (h2.1 a0) 641 i2) hx hb hown hk hR hL clk_X10 f1 (by decide) (by decide) q1156 (fun _ h9 => h9) rfl hnm rfl ⟨rfl, rfl⟩ rfl (pvI clk_X10 (by decide) rfl rfl) dX10_init_11 (fun H locs hR hL => ?_)
  obtain ⟨h3, eh3⟩ : ∃ z : VH, z = sI h2 641 a0 i2 := ⟨_, rfl⟩
  have hR : Rp G h3 H := by rw [eh3]; exact hR
  have f := f h3 eh3
  refine w_aload_n hx hb dX10_init_14 rfl (lv_v hl (k := 0) rfl rfl) ?_
  refine lv_iload_n hx hb dX10_init_15 rfl (lv_v hl (k := 3) rfl rfl) ?_
  obtain ⟨f1, f⟩ := f
  refine w_putF (i := 16) (k := 2) (c1 := cI (h3.1 a0) 642 i3) hx hb hown hk hR hL clk_X10 f1 (by decide) (by decide) q1157 (fun _ h9 => h9) rfl hnm rfl ⟨rfl, rfl⟩ rfl (pvI clk_X10 (by decide) rfl rfl) dX10_init_16 (fun H locs hR hL => ?_)
  obtain ⟨h4, eh4⟩ : ∃ z : VH, z = sI h3 642 a0 i3 := ⟨_, rfl⟩
  have hR : Rp G h4 H := by rw [eh4]; exact hR
  have f := f h4 eh4
  exact w_vret hx hb hr hlk hR hL dX10_init_19 f
theorem t_X10_init {G : Wd} {l : Launch} {d : Nat} {post : Option Value → VH → Prop} {xp : Nat → VH → Prop} {i1 i2 i3 : Int32} {a0 : Nat} {h : VH} (hd : 9 ≤ d)
    (f : a0 ≠ 0 ∧ D G l (d - 1) mJ24_init [vR a0] h (fun v h1 => v = none ∧ ((kd h1 a0 = 17) ∧ (∀ h2 : VH, h2 = sI h1 640 a0 i1 → ((kd h2 a0 = 17) ∧ (∀ h3 : VH, h3 = sI h2 641 a0 i2 → ((kd h3 a0 = 17) ∧ (∀ h4 : VH, h4 = sI h3 642 a0 i3 → (post none h4)))))))) xp) : D G l d mX10_init [vR a0, vI i1, vI i2, vI i3] h post xp := D_in hd rfl rfl fun V XV C => b_X10_init_0 C f
theorem b_X10_rank_0 {G : Wd} {l : Launch} {d : Nat} {post : Option Value → VH → Prop} {xp : Nat → VH → Prop} {V : Nat → List (Nat × VT) → List Value → VH → Prop} {XV : Nat → List (Nat × VT) → Nat → VH → Prop} (C : Ctx G l d mX10_rank post xp V XV) {a0 : Nat} {h : VH}
    (f : (kd h a0 = 17) ∧ (post (some (.int (gI h 642 a0))) h)) : V 0 [(0, vR a0)] [] h := by
  obtain ⟨p, e, R, s, m, args, below, meth, c, Q, ⟨hx, hb, hr, hlk, hml, hown, hk, hRr, htb, hnm, hsB, htr, hQ⟩, hV, hX⟩ := C
  rw [hV]
  intro H locs ls hR hL hl
  have hb : c.code = cX10_rank := hb
  have hr : meth.sig.returnType = some .int := hr
  have hml : c.maxLocals = 1 := hml
  have hown : s.vm.findClass RX10 = some m.cls := hown
  have hl : lv_has ls 1 (lm [(0, vR a0)]) := hl
  have hsz : ls.size = c.maxLocals := hl.1.trans hml.symm
  subst hQ
  refine w_aload_n hx hb dX10_rank_0 rfl (lv_v hl (k := 0) rfl rfl) ?_
  obtain ⟨f1, f⟩ := f
  refine w_get (i := 16) (k := 2) (v := .int (gI h 642 a0)) hx hb hown hk hR clk_X10 f1 (by decide) (by decide) q1157 (fun _ h9 => h9) rfl dX10_rank_1 ?_
  exact w_iret hx hb hr hlk hR hL dX10_rank_4 f
theorem t_X10_rank {G : Wd} {l : Launch} {d : Nat} {post : Option Value → VH → Prop} {xp : Nat → VH → Prop} {a0 : Nat} {h : VH} (hd : 9 ≤ d)
    (f : (kd h a0 = 17) ∧ (post (some (.int (gI h 642 a0))) h)) : D G l d mX10_rank [vR a0] h post xp := D_in hd rfl rfl fun V XV C => b_X10_rank_0 C f
theorem b_X10_told_0 {G : Wd} {l : Launch} {d : Nat} {post : Option Value → VH → Prop} {xp : Nat → VH → Prop} {V : Nat → List (Nat × VT) → List Value → VH → Prop} {XV : Nat → List (Nat × VT) → Nat → VH → Prop} (C : Ctx G l d mX10_told post xp V XV) {a0 : Nat} {h : VH}
    (f : (kd h a0 = 17) ∧ ((kd h a0 = 17) ∧ (post (some (.int (((jI 10) * (gI h 641 a0)) + (gI h 642 a0)))) h))) : V 0 [(0, vR a0)] [] h := by
  obtain ⟨p, e, R, s, m, args, below, meth, c, Q, ⟨hx, hb, hr, hlk, hml, hown, hk, hRr, htb, hnm, hsB, htr, hQ⟩, hV, hX⟩ := C
  rw [hV]
  intro H locs ls hR hL hl
  have hb : c.code = cX10_told := hb
  have hr : meth.sig.returnType = some .int := hr
  have hml : c.maxLocals = 1 := hml
  have hown : s.vm.findClass RX10 = some m.cls := hown
  have hl : lv_has ls 1 (lm [(0, vR a0)]) := hl
  have hsz : ls.size = c.maxLocals := hl.1.trans hml.symm
  subst hQ
  refine w_bipush hx hb dX10_told_0 (by decide) ?_
  refine w_aload_n hx hb dX10_told_2 rfl (lv_v hl (k := 0) rfl rfl) ?_
  obtain ⟨f1, f⟩ := f
  refine w_get (i := 16) (k := 1) (v := .int (gI h 641 a0)) hx hb hown hk hR clk_X10 f1 (by decide) (by decide) q1156 (fun _ h9 => h9) rfl dX10_told_3 ?_
  refine lv_imul hx hb dX10_told_6 ?_
  refine w_aload_n hx hb dX10_told_7 rfl (lv_v hl (k := 0) rfl rfl) ?_
  obtain ⟨f1, f⟩ := f
  refine w_get (i := 16) (k := 2) (v := .int (gI h 642 a0)) hx hb hown hk hR clk_X10 f1 (by decide) (by decide) q1157 (fun _ h9 => h9) rfl dX10_told_8 ?_
  refine lv_iadd hx hb dX10_told_11 ?_
  exact w_iret hx hb hr hlk hR hL dX10_told_12 f
theorem t_X10_told {G : Wd} {l : Launch} {d : Nat} {post : Option Value → VH → Prop} {xp : Nat → VH → Prop} {a0 : Nat} {h : VH} (hd : 9 ≤ d)
    (f : (kd h a0 = 17) ∧ ((kd h a0 = 17) ∧ (post (some (.int (((jI 10) * (gI h 641 a0)) + (gI h 642 a0)))) h))) : D G l d mX10_told [vR a0] h post xp := D_in hd rfl rfl fun V XV C => b_X10_told_0 C f
theorem b_X10_written_0 {G : Wd} {l : Launch} {d : Nat} {post : Option Value → VH → Prop} {xp : Nat → VH → Prop} {V : Nat → List (Nat × VT) → List Value → VH → Prop} {XV : Nat → List (Nat × VT) → Nat → VH → Prop} (C : Ctx G l d mX10_written post xp V XV) {a0 : Nat} {h : VH}
    (f : (hz h ≤ wC G) ∧ (hs h + 4 ≤ wS G) ∧ (∀ h1 : VH, h1 = al h 6 0 4 → ((hz h) ≠ 0 ∧ D G l d mJ10_init [vR (hz h)] h1 (fun v h2 => v = none ∧ ((kd h2 (hz h) = 6) ∧ D G l d mJ10_append [vR (hz h), vR (wA G 20 + 1)] h2 (fun v h3 => ∃ ra3, v = some (vr ra3) ∧ ((kd h3 a0 = 17) ∧ ((kd h3 ra3 = 6) ∧ D G l d mJ10_append_3 [vR ra3, vI (ji2c ((jI 97) + (gI h3 641 a0)))] h3 (fun v h4 => ∃ ra4, v = some (vr ra4) ∧ ((kd h4 a0 = 17) ∧ ((kd h4 ra4 = 6) ∧ D G l d mJ10_append_2 [vR ra4, vI (gI h4 642 a0)] h4 (fun v h5 => ∃ ra5, v = some (vr ra5) ∧ ((kd h5 ra5 = 6) ∧ D G l d mJ10_toString [vR ra5] h5 (fun v h6 => ∃ ra6, v = some (vr ra6) ∧ (post (some (vr ra6)) h6)) xp)) xp))) xp))) xp)) xp))) : V 0 [(0, vR a0)] [] h := by
  obtain ⟨p, e, R, s, m, args, below, meth, c, Q, ⟨hx, hb, hr, hlk, hml, hown, hk, hRr, htb, hnm, hsB, htr, hQ⟩, hV, hX⟩ := C
  rw [hV]
  intro H locs ls hR hL hl
  have hb : c.code = cX10_written := hb
  have hr : meth.sig.returnType = some (.object "java/lang/String") := hr
  have hml : c.maxLocals = 1 := hml
  have hown : s.vm.findClass RX10 = some m.cls := hown
  have hl : lv_has ls 1 (lm [(0, vR a0)]) := hl
  have hsz : ls.size = c.maxLocals := hl.1.trans hml.symm
  subst hQ
  obtain ⟨f1, f2, f⟩ := f
  refine w_new hx hb hown hk hR hL hRr.2.2.1 hRr.2.2.2.1 hsB clk_J10 q2952 q404 q162 f1 f2 (fun k hk => by match k, hk with | 0, _ => rfl | 1, _ => rfl | 2, _ => rfl | 3, _ => rfl | k + 4, hk => exact absurd hk (by omega)) (by decide) (by decide) dX10_written_0 (fun H hR => ?_)
  obtain ⟨h1, eh1⟩ : ∃ z : VH, z = al h 6 0 4 := ⟨_, rfl⟩
  have hR : Rp G h1 H := by rw [eh1]; exact hR
  have f := f h1 eh1
  refine lv_dup hx hb dX10_written_3 (vr_cat _) ?_
  refine w_call (mi := mJ10_init) (As := [vR (hz h)]) (rest := [vr (hz h)]) (len := 3) hk hR hL hsz hsB htr hRr (cok_I (argsL := []) hx hb hown hk f.1 rfl q2953 q406 q407 kJ10_init.1 kJ10_init.2 rfl dX10_written_4) f.2 wJ10_init iJ10_init (by decide) (cat_sum _ (Nat.le_of_ble_eq_true rfl)) rfl (fun v h2 H locs f hR hL => ?_) (fun q h9 H locs hp hR hL => x_out hown hlk hR hL (fun x9 h9 => by rw [htb] at h9; exact absurd h9 List.not_mem_nil) ⟨hp.1, hp.2.1⟩ hp.2.2)
  obtain ⟨rfl, f⟩ := f
  show Wn p l e R s m args below meth c H locs _ (F0 m 7 ls [vr (hz h)])
  refine w_ldcS (own := "HintTeam$Card") (tx := "") (q := wA G 20) hx hb hown hk (by simp [SCL]) dX10_written_7 ?_
  refine w_call (mi := mJ10_append) (As := [vR (hz h), vR (wA G 20 + 1)]) (rest := []) (len := 3) hk hR hL hsz hsB htr hRr (cok_V (i := 5) (C := RJ10) (argsL := [vr (wA G 20 + 1)]) hx hb hown hk hR f.1 (by decide) rfl q2955 q438 q439 q440 kJ10_append.1 kJ10_append.2 rfl dX10_written_9) f.2 wJ10_append iJ10_append (by decide) (cat_sum _ (Nat.le_of_ble_eq_true rfl)) rfl (fun v h3 H locs f hR hL => ?_) (fun q h9 H locs hp hR hL => x_out hown hlk hR hL (fun x9 h9 => by rw [htb] at h9; exact absurd h9 List.not_mem_nil) ⟨hp.1, hp.2.1⟩ hp.2.2)
  obtain ⟨ra3, rfl, f⟩ := f
  show Wn p l e R s m args below meth c H locs _ (F0 m 12 ls [vr ra3])
  refine w_bipush hx hb dX10_written_12 (by decide) ?_
  refine w_aload_n hx hb dX10_written_14 rfl (lv_v hl (k := 0) rfl rfl) ?_
  obtain ⟨f1, f⟩ := f
  refine w_get (i := 16) (k := 1) (v := .int (gI h3 641 a0)) hx hb hown hk hR clk_X10 f1 (by decide) (by decide) q1156 (fun _ h9 => h9) rfl dX10_written_15 ?_
  refine lv_iadd hx hb dX10_written_18 ?_
  refine lv_i2c (v := ji2c ((jI 97) + (gI h3 641 a0))) hx hb dX10_written_19 rfl ?_
  refine w_call (mi := mJ10_append_3) (As := [vR ra3, vI (ji2c ((jI 97) + (gI h3 641 a0)))]) (rest := []) (len := 3) hk hR hL hsz hsB htr hRr (cok_V (i := 5) (C := RJ10) (argsL := [.int (ji2c ((jI 97) + (gI h3 641 a0)))]) hx hb hown hk hR f.1 (by decide) rfl q2956 q996 q997 q998 kJ10_append_3.1 kJ10_append_3.2 rfl dX10_written_20) f.2 wJ10_append_3 iJ10_append_3 (by decide) (cat_sum _ (Nat.le_of_ble_eq_true rfl)) rfl (fun v h4 H locs f hR hL => ?_) (fun q h9 H locs hp hR hL => x_out hown hlk hR hL (fun x9 h9 => by rw [htb] at h9; exact absurd h9 List.not_mem_nil) ⟨hp.1, hp.2.1⟩ hp.2.2)
  obtain ⟨ra4, rfl, f⟩ := f
  show Wn p l e R s m args below meth c H locs _ (F0 m 23 ls [vr ra4])
  refine w_aload_n hx hb dX10_written_23 rfl (lv_v hl (k := 0) rfl rfl) ?_
  obtain ⟨f1, f⟩ := f
  refine w_get (i := 16) (k := 2) (v := .int (gI h4 642 a0)) hx hb hown hk hR clk_X10 f1 (by decide) (by decide) q1157 (fun _ h9 => h9) rfl dX10_written_24 ?_
  refine w_call (mi := mJ10_append_2) (As := [vR ra4, vI (gI h4 642 a0)]) (rest := []) (len := 3) hk hR hL hsz hsB htr hRr (cok_V (i := 5) (C := RJ10) (argsL := [.int (gI h4 642 a0)]) hx hb hown hk hR f.1 (by decide) rfl q2957 q558 q559 q560 kJ10_append_2.1 kJ10_append_2.2 rfl dX10_written_27) f.2 wJ10_append_2 iJ10_append_2 (by decide) (cat_sum _ (Nat.le_of_ble_eq_true rfl)) rfl (fun v h5 H locs f hR hL => ?_) (fun q h9 H locs hp hR hL => x_out hown hlk hR hL (fun x9 h9 => by rw [htb] at h9; exact absurd h9 List.not_mem_nil) ⟨hp.1, hp.2.1⟩ hp.2.2)
  obtain ⟨ra5, rfl, f⟩ := f
  show Wn p l e R s m args below meth c H locs _ (F0 m 30 ls [vr ra5])
  refine w_call (mi := mJ10_toString) (As := [vR ra5]) (rest := []) (len := 3) hk hR hL hsz hsB htr hRr (cok_V (i := 5) (C := RJ10) (argsL := []) hx hb hown hk hR f.1 (by decide) rfl q2958 q583 q584 q585 kJ10_toString.1 kJ10_toString.2 rfl dX10_written_30) f.2 wJ10_toString iJ10_toString (by decide) (cat_sum _ (Nat.le_of_ble_eq_true rfl)) rfl (fun v h6 H locs f hR hL => ?_) (fun q h9 H locs hp hR hL => x_out hown hlk hR hL (fun x9 h9 => by rw [htb] at h9; exact absurd h9 List.not_mem_nil) ⟨hp.1, hp.2.1⟩ hp.2.2)
  obtain ⟨ra6, rfl, f⟩ := f
  show Wn p l e R s m args below meth c H locs _ (F0 m 33 ls [vr ra6])
  exact w_aret hx hb hr (Or.inl ⟨_, rfl⟩) hlk hR hL dX10_written_33 f
theorem t_X10_written {G : Wd} {l : Launch} {d : Nat} {post : Option Value → VH → Prop} {xp : Nat → VH → Prop} {a0 : Nat} {h : VH} (hd : 9 ≤ d)
    (f : (hz h ≤ wC G) ∧ (hs h + 4 ≤ wS G) ∧ (∀ h1 : VH, h1 = al h 6 0 4 → ((hz h) ≠ 0 ∧ D G l (d - 1) mJ10_init [vR (hz h)] h1 (fun v h2 => v = none ∧ ((kd h2 (hz h) = 6) ∧ D G l (d - 1) mJ10_append [vR (hz h), vR (wA G 20 + 1)] h2 (fun v h3 => ∃ ra3, v = some (vr ra3) ∧ ((kd h3 a0 = 17) ∧ ((kd h3 ra3 = 6) ∧ D G l (d - 1) mJ10_append_3 [vR ra3, vI (ji2c ((jI 97) + (gI h3 641 a0)))] h3 (fun v h4 => ∃ ra4, v = some (vr ra4) ∧ ((kd h4 a0 = 17) ∧ ((kd h4 ra4 = 6) ∧ D G l (d - 1) mJ10_append_2 [vR ra4, vI (gI h4 642 a0)] h4 (fun v h5 => ∃ ra5, v = some (vr ra5) ∧ ((kd h5 ra5 = 6) ∧ D G l (d - 1) mJ10_toString [vR ra5] h5 (fun v h6 => ∃ ra6, v = some (vr ra6) ∧ (post (some (vr ra6)) h6)) xp)) xp))) xp))) xp)) xp))) : D G l d mX10_written [vR a0] h post xp := D_in hd rfl rfl fun V XV C => b_X10_written_0 C f
theorem b_X11_init_0 {G : Wd} {l : Launch} {d : Nat} {post : Option Value → VH → Prop} {xp : Nat → VH → Prop} {V : Nat → List (Nat × VT) → List Value → VH → Prop} {XV : Nat → List (Nat × VT) → Nat → VH → Prop} (C : Ctx G l d mX11_init post xp V XV) {i2 i3 i4 : Int32} {a0 a1 : Nat} {h : VH}
    (f : (kd h a0 = 21) ∧ (∀ h1 : VH, h1 = sR h 803 a0 a1 → (a0 ≠ 0 ∧ D G l d mX4_init [vR a0, vR a1] h1 (fun v h2 => v = none ∧ ((kd h2 a0 = 21) ∧ (∀ h3 : VH, h3 = sI h2 800 a0 i2 → ((kd h3 a0 = 21) ∧ (∀ h4 : VH, h4 = sI h3 801 a0 i3 → ((kd h4 a0 = 21) ∧ (∀ h5 : VH, h5 = sI h4 802 a0 i4 → (post none h5)))))))) xp))) : V 0 [(0, vR a0), (1, vR a1), (2, vI i2), (3, vI i3), (4, vI i4)] [] h := by
  obtain ⟨p, e, R, s, m, args, below, meth, c, Q, ⟨hx, hb, hr, hlk, hml, hown, hk, hRr, htb, hnm, hsB, htr, hQ⟩, hV, hX⟩ := C
  rw [hV]
  intro H locs ls hR hL hl
  have hb : c.code = cX11_init := hb
  have hr : meth.sig.returnType = none := hr
  have hml : c.maxLocals = 5 := hml
  have hown : s.vm.findClass RX11 = some m.cls := hown
  have hl : lv_has ls 5 (lm [(0, vR a0), (1, vR a1), (2, vI i2), (3, vI i3), (4, vI i4)]) := hl
  have hsz : ls.size = c.maxLocals := hl.1.trans hml.symm
  subst hQ
  refine w_aload_n hx hb dX11_init_0 rfl (lv_v hl (k := 0) rfl rfl) ?_
  refine w_aload_n hx hb dX11_init_1 rfl (lv_v hl (k := 1) rfl rfl) ?_
  obtain ⟨f1, f⟩ := f
  refine w_putF (i := 20) (k := 3) (c1 := cR (h.1 a0) 803 a1) hx hb hown hk hR hL clk_X11 f1 (by decide) (by decide) q1579 (fun _ h9 => h9) rfl hnm rfl (vr_fit rfl _) rfl (pvR clk_X11 (by decide) rfl rfl) dX11_init_2 (fun H locs hR hL => ?_)
  obtain ⟨h1, eh1⟩ : ∃ z : VH, z = sR h 803 a0 a1 := ⟨_, rfl⟩
  have hR : Rp G h1 H := by rw [eh1]; exact hR
  have f := f h1 eh1
  refine w_aload_n hx hb dX11_init_5 rfl (lv_v hl (k := 0) rfl rfl) ?_
  refine w_aload_n hx hb dX11_init_6 rfl (lv_v hl (k := 1) rfl rfl) ?_
  refine w_call (mi := mX4_init) (As := [vR a0, vR a1]) (rest := []) (len := 3) hk hR hL hsz hsB htr hRr (cok_IN (argsL := [vr a1]) hx hb hown hk f.1 rfl q1572 q815 q816 kX4_init.1 kX4_init.2 rfl dX11_init_7) f.2 wX4_init iX4_init (by decide) (cat_sum _ (Nat.le_of_ble_eq_true rfl)) rfl (fun v h2 H locs f hR hL => ?_) (fun q h9 H locs hp hR hL => x_out hown hlk hR hL (fun x9 h9 => by rw [htb] at h9; exact absurd h9 List.not_mem_nil) ⟨hp.1, hp.2.1⟩ hp.2.2)
  obtain ⟨rfl, f⟩ := f
  show Wn p l e R s m args below meth c H locs _ (F0 m 10 ls [])
  refine w_aload_n hx hb dX11_init_10 rfl (lv_v hl (k := 0) rfl rfl) ?_
  refine lv_iload_n hx hb dX11_init_11 rfl (lv_v hl (k := 2) rfl rfl) ?_
  obtain ⟨f1, f⟩ := f
  refine w_putF (i := 20) (k := 0) (c1 := cI (h2.1 a0) 800 i2) hx hb hown hk hR hL clk_X11 f1 (by decide) (by decide) q1573 (fun _ h9 => h9) rfl hnm rfl ⟨rfl, rfl⟩ rfl (pvI clk_X11 (by decide) rfl rfl) dX11_init_12 (fun H locs hR hL => ?_)
  obtain ⟨h3, eh3⟩ : ∃ z : VH, z = sI h2 800 a0 i2 := ⟨_, rfl⟩
  have hR : Rp G h3 H := by rw [eh3]; exact hR
  have f := f h3 eh3
  refine w_aload_n hx hb dX11_init_15 rfl (lv_v hl (k := 0) rfl rfl) ?_
  refine lv_iload_n hx hb dX11_init_16 rfl (lv_v hl (k := 3) rfl rfl) ?_
  obtain ⟨f1, f⟩ := f
  refine w_putF (i := 20) (k := 1) (c1 := cI (h3.1 a0) 801 i3) hx hb hown hk hR hL clk_X11 f1 (by decide) (by decide) q1575 (fun _ h9 => h9) rfl hnm rfl ⟨rfl, rfl⟩ rfl (pvI clk_X11 (by decide) rfl rfl) dX11_init_17 (fun H locs hR hL => ?_)
  obtain ⟨h4, eh4⟩ : ∃ z : VH, z = sI h3 801 a0 i3 := ⟨_, rfl⟩
  have hR : Rp G h4 H := by rw [eh4]; exact hR
  have f := f h4 eh4
  refine w_aload_n hx hb dX11_init_20 rfl (lv_v hl (k := 0) rfl rfl) ?_
  refine lv_iload hx hb dX11_init_21 (lv_v hl (k := 4) rfl rfl) ?_
  obtain ⟨f1, f⟩ := f
  refine w_putF (i := 20) (k := 2) (c1 := cI (h4.1 a0) 802 i4) hx hb hown hk hR hL clk_X11 f1 (by decide) (by decide) q1577 (fun _ h9 => h9) rfl hnm rfl ⟨rfl, rfl⟩ rfl (pvI clk_X11 (by decide) rfl rfl) dX11_init_23 (fun H locs hR hL => ?_)
  obtain ⟨h5, eh5⟩ : ∃ z : VH, z = sI h4 802 a0 i4 := ⟨_, rfl⟩
  have hR : Rp G h5 H := by rw [eh5]; exact hR
  have f := f h5 eh5
  exact w_vret hx hb hr hlk hR hL dX11_init_26 f
theorem t_X11_init {G : Wd} {l : Launch} {d : Nat} {post : Option Value → VH → Prop} {xp : Nat → VH → Prop} {i2 i3 i4 : Int32} {a0 a1 : Nat} {h : VH} (hd : 9 ≤ d)
    (f : (kd h a0 = 21) ∧ (∀ h1 : VH, h1 = sR h 803 a0 a1 → (a0 ≠ 0 ∧ D G l (d - 1) mX4_init [vR a0, vR a1] h1 (fun v h2 => v = none ∧ ((kd h2 a0 = 21) ∧ (∀ h3 : VH, h3 = sI h2 800 a0 i2 → ((kd h3 a0 = 21) ∧ (∀ h4 : VH, h4 = sI h3 801 a0 i3 → ((kd h4 a0 = 21) ∧ (∀ h5 : VH, h5 = sI h4 802 a0 i4 → (post none h5)))))))) xp))) : D G l d mX11_init [vR a0, vR a1, vI i2, vI i3, vI i4] h post xp := D_in hd rfl rfl fun V XV C => b_X11_init_0 C f
theorem b_X11_kind_0 {G : Wd} {l : Launch} {d : Nat} {post : Option Value → VH → Prop} {xp : Nat → VH → Prop} {V : Nat → List (Nat × VT) → List Value → VH → Prop} {XV : Nat → List (Nat × VT) → Nat → VH → Prop} (C : Ctx G l d mX11_kind post xp V XV) {a0 : Nat} {h : VH}
    (f : post (some (.int (jI 2))) h) : V 0 [(0, vR a0)] [] h := by
  obtain ⟨p, e, R, s, m, args, below, meth, c, Q, ⟨hx, hb, hr, hlk, hml, hown, hk, hRr, htb, hnm, hsB, htr, hQ⟩, hV, hX⟩ := C
  rw [hV]
  intro H locs ls hR hL hl
  have hb : c.code = cX11_kind := hb
  have hr : meth.sig.returnType = some .int := hr
  have hml : c.maxLocals = 1 := hml
  have hown : s.vm.findClass RX11 = some m.cls := hown
  have hl : lv_has ls 1 (lm [(0, vR a0)]) := hl
  have hsz : ls.size = c.maxLocals := hl.1.trans hml.symm
  subst hQ
  refine w_iconst hx hb dX11_kind_0 ?_
  exact w_iret hx hb hr hlk hR hL dX11_kind_1 f
theorem t_X11_kind {G : Wd} {l : Launch} {d : Nat} {post : Option Value → VH → Prop} {xp : Nat → VH → Prop} {a0 : Nat} {h : VH} (hd : 9 ≤ d)
    (f : post (some (.int (jI 2))) h) : D G l d mX11_kind [vR a0] h post xp := D_in hd rfl rfl fun V XV C => b_X11_kind_0 C f
theorem b_X11_part_0 {G : Wd} {l : Launch} {d : Nat} {post : Option Value → VH → Prop} {xp : Nat → VH → Prop} {V : Nat → List (Nat × VT) → List Value → VH → Prop} {XV : Nat → List (Nat × VT) → Nat → VH → Prop} (C : Ctx G l d mX11_part post xp V XV) {i1 : Int32} {a0 : Nat} {h : VH}
    (f : (¬ i1 = (jI 1) → ((¬ i1 = (jI 2) → ((kd h a0 = 21) ∧ (post (some (.int (gI h 802 a0))) h))) ∧ (i1 = (jI 2) → ((kd h a0 = 21) ∧ (post (some (.int (gI h 801 a0))) h))))) ∧ (i1 = (jI 1) → ((kd h a0 = 21) ∧ (post (some (.int (gI h 800 a0))) h)))) : V 0 [(0, vR a0), (1, vI i1)] [] h := by
  obtain ⟨p, e, R, s, m, args, below, meth, c, Q, ⟨hx, hb, hr, hlk, hml, hown, hk, hRr, htb, hnm, hsB, htr, hQ⟩, hV, hX⟩ := C
  rw [hV]
  intro H locs ls hR hL hl
  have hb : c.code = cX11_part := hb
  have hr : meth.sig.returnType = some .int := hr
  have hml : c.maxLocals = 2 := hml
  have hown : s.vm.findClass RX11 = some m.cls := hown
  have hl : lv_has ls 2 (lm [(0, vR a0), (1, vI i1)]) := hl
  have hsz : ls.size = c.maxLocals := hl.1.trans hml.symm
  subst hQ
  refine lv_iload_n hx hb dX11_part_0 rfl (lv_v hl (k := 1) rfl rfl) ?_
  refine w_iconst hx hb dX11_part_1 ?_
  refine lv_icmp_ne (tgt := 12) hx hb dX11_part_2 (by decide) (fun c9 => ?_) (fun c9 => ?_)
  · have f := f.1 c9
    refine lv_iload_n hx hb dX11_part_12 rfl (lv_v hl (k := 1) rfl rfl) ?_
    refine w_iconst hx hb dX11_part_13 ?_
    refine lv_icmp_ne (tgt := 24) hx hb dX11_part_14 (by decide) (fun c9 => ?_) (fun c9 => ?_)
    · have f := f.1 c9
      refine w_aload_n hx hb dX11_part_24 rfl (lv_v hl (k := 0) rfl rfl) ?_
      obtain ⟨f1, f⟩ := f
      refine w_get (i := 20) (k := 2) (v := .int (gI h 802 a0)) hx hb hown hk hR clk_X11 f1 (by decide) (by decide) q1577 (fun _ h9 => h9) rfl dX11_part_25 ?_
      exact w_iret hx hb hr hlk hR hL dX11_part_28 f
    · have f := f.2 c9
      refine w_aload_n hx hb dX11_part_17 rfl (lv_v hl (k := 0) rfl rfl) ?_
      obtain ⟨f1, f⟩ := f
      refine w_get (i := 20) (k := 1) (v := .int (gI h 801 a0)) hx hb hown hk hR clk_X11 f1 (by decide) (by decide) q1575 (fun _ h9 => h9) rfl dX11_part_18 ?_
      refine lv_goto (tgt := 28) hx hb dX11_part_21 (by decide) ?_
      exact w_iret hx hb hr hlk hR hL dX11_part_28 f
  · have f := f.2 c9
    refine w_aload_n hx hb dX11_part_5 rfl (lv_v hl (k := 0) rfl rfl) ?_
    obtain ⟨f1, f⟩ := f
    refine w_get (i := 20) (k := 0) (v := .int (gI h 800 a0)) hx hb hown hk hR clk_X11 f1 (by decide) (by decide) q1573 (fun _ h9 => h9) rfl dX11_part_6 ?_
    refine lv_goto (tgt := 28) hx hb dX11_part_9 (by decide) ?_
    exact w_iret hx hb hr hlk hR hL dX11_part_28 f
theorem t_X11_part {G : Wd} {l : Launch} {d : Nat} {post : Option Value → VH → Prop} {xp : Nat → VH → Prop} {i1 : Int32} {a0 : Nat} {h : VH} (hd : 9 ≤ d)
    (f : (¬ i1 = (jI 1) → ((¬ i1 = (jI 2) → ((kd h a0 = 21) ∧ (post (some (.int (gI h 802 a0))) h))) ∧ (i1 = (jI 2) → ((kd h a0 = 21) ∧ (post (some (.int (gI h 801 a0))) h))))) ∧ (i1 = (jI 1) → ((kd h a0 = 21) ∧ (post (some (.int (gI h 800 a0))) h)))) : D G l d mX11_part [vR a0, vI i1] h post xp := D_in hd rfl rfl fun V XV C => b_X11_part_0 C f
theorem b_X11_run_0 {G : Wd} {l : Launch} {d : Nat} {post : Option Value → VH → Prop} {xp : Nat → VH → Prop} {V : Nat → List (Nat × VT) → List Value → VH → Prop} {XV : Nat → List (Nat × VT) → Nat → VH → Prop} (C : Ctx G l d mX11_run post xp V XV) {a0 : Nat} {h : VH}
    (f : (kd h a0 = 21) ∧ ((kd h (gR h 803 a0) = 1) ∧ ((kd h a0 = 21) ∧ ((kd h a0 = 21) ∧ ((kd h a0 = 21) ∧ ((kd h (gR h 0 (gR h 803 a0)) = 2) ∧ D G l d mX2_hint [vR (gR h 0 (gR h 803 a0)), vI (gI h 800 a0), vI (gI h 801 a0), vI (gI h 802 a0)] h (fun v h1 => ∃ ri1, v = some (.int ri1) ∧ (post none h1)) xp)))))) : V 0 [(0, vR a0)] [] h := by
  obtain ⟨p, e, R, s, m, args, below, meth, c, Q, ⟨hx, hb, hr, hlk, hml, hown, hk, hRr, htb, hnm, hsB, htr, hQ⟩, hV, hX⟩ := C
  rw [hV]
  intro H locs ls hR hL hl
  have hb : c.code = cX11_run := hb
  have hr : meth.sig.returnType = none := hr
  have hml : c.maxLocals = 2 := hml
  have hown : s.vm.findClass RX11 = some m.cls := hown
  have hl : lv_has ls 2 (lm [(0, vR a0)]) := hl
  have hsz : ls.size = c.maxLocals := hl.1.trans hml.symm
  subst hQ
  refine w_aload_n hx hb dX11_run_0 rfl (lv_v hl (k := 0) rfl rfl) ?_
  obtain ⟨f1, f⟩ := f
  refine w_get (i := 20) (k := 3) (v := vr (gR h 803 a0)) hx hb hown hk hR clk_X11 f1 (by decide) (by decide) q1579 (fun _ h9 => h9) rfl dX11_run_1 ?_
  obtain ⟨f1, f⟩ := f
  refine w_getN (i := 0) (k := 0) (v := vr (gR h 0 (gR h 803 a0))) hx hb hown hk hR clk_X1 f1 (by decide) (by decide) q860 (fun _ h9 => h9) rfl dX11_run_4 ?_
  refine w_aload_n hx hb dX11_run_7 rfl (lv_v hl (k := 0) rfl rfl) ?_
  obtain ⟨f1, f⟩ := f
  refine w_get (i := 20) (k := 0) (v := .int (gI h 800 a0)) hx hb hown hk hR clk_X11 f1 (by decide) (by decide) q1573 (fun _ h9 => h9) rfl dX11_run_8 ?_
  refine w_aload_n hx hb dX11_run_11 rfl (lv_v hl (k := 0) rfl rfl) ?_
  obtain ⟨f1, f⟩ := f
  refine w_get (i := 20) (k := 1) (v := .int (gI h 801 a0)) hx hb hown hk hR clk_X11 f1 (by decide) (by decide) q1575 (fun _ h9 => h9) rfl dX11_run_12 ?_
  refine w_aload_n hx hb dX11_run_15 rfl (lv_v hl (k := 0) rfl rfl) ?_
  obtain ⟨f1, f⟩ := f
  refine w_get (i := 20) (k := 2) (v := .int (gI h 802 a0)) hx hb hown hk hR clk_X11 f1 (by decide) (by decide) q1577 (fun _ h9 => h9) rfl dX11_run_16 ?_
  refine w_call (mi := mX2_hint) (As := [vR (gR h 0 (gR h 803 a0)), vI (gI h 800 a0), vI (gI h 801 a0), vI (gI h 802 a0)]) (rest := []) (len := 3) hk hR hL hsz hsB htr hRr (cok_V (i := 1) (C := RX2) (argsL := [.int (gI h 800 a0), .int (gI h 801 a0), .int (gI h 802 a0)]) hx hb hown hk hR f.1 (by decide) rfl q2427 q2428 q2429 q2430 kX2_hint.1 kX2_hint.2 rfl dX11_run_19) f.2 wX2_hint iX2_hint (by decide) (cat_sum _ (Nat.le_of_ble_eq_true rfl)) rfl (fun v h1 H locs f hR hL => ?_) (fun q h9 H locs hp hR hL => x_out hown hlk hR hL (fun x9 h9 => by rw [htb] at h9; exact absurd h9 List.not_mem_nil) ⟨hp.1, hp.2.1⟩ hp.2.2)
  obtain ⟨ri1, rfl, f⟩ := f
  show Wn p l e R s m args below meth c H locs _ (F0 m 22 ls [.int ri1])
  refine w_istore_n (L' := [(1, vI ri1), (0, vR a0)]) hx hb dX11_run_22 rfl hl (by decide) rfl (fun ls hl => ?_)
  have hsz : ls.size = c.maxLocals := hl.1.trans hml.symm
  exact w_vret hx hb hr hlk hR hL dX11_run_23 f
theorem t_X11_run {G : Wd} {l : Launch} {d : Nat} {post : Option Value → VH → Prop} {xp : Nat → VH → Prop} {a0 : Nat} {h : VH} (hd : 9 ≤ d)
    (f : (kd h a0 = 21) ∧ ((kd h (gR h 803 a0) = 1) ∧ ((kd h a0 = 21) ∧ ((kd h a0 = 21) ∧ ((kd h a0 = 21) ∧ ((kd h (gR h 0 (gR h 803 a0)) = 2) ∧ D G l (d - 1) mX2_hint [vR (gR h 0 (gR h 803 a0)), vI (gI h 800 a0), vI (gI h 801 a0), vI (gI h 802 a0)] h (fun v h1 => ∃ ri1, v = some (.int ri1) ∧ (post none h1)) xp)))))) : D G l d mX11_run [vR a0] h post xp := D_in hd rfl rfl fun V XV C => b_X11_run_0 C f
theorem b_X12_colorsBy_0 {G : Wd} {l : Launch} {d : Nat} {post : Option Value → VH → Prop} {xp : Nat → VH → Prop} {V : Nat → List (Nat × VT) → List Value → VH → Prop} {XV : Nat → List (Nat × VT) → Nat → VH → Prop} (C : Ctx G l d mX12_colorsBy post xp V XV) {i1 i2 : Int32} {a0 : Nat} {h : VH}
    (f : (¬ i1 = 0 → ((kd h a0 = 23) ∧ (post (some (.int (gI h 881 a0))) h))) ∧ (i1 = 0 → ((kd h a0 = 23) ∧ ((kd h (gR h 880 a0) = 17) ∧ D G l d mX10_color [vR (gR h 880 a0)] h (fun v h1 => ∃ ri1, v = some (.int ri1) ∧ ((¬ ri1 = i2 → ((kd h1 a0 = 23) ∧ (post (some (.int ((gI h1 881 a0) &&& ((jshl (jI 1) i2) ^^^ (jI (-1)))))) h1))) ∧ (ri1 = i2 → (post (some (.int (jshl (jI 1) i2))) h1)))) xp)))) : V 0 [(0, vR a0), (1, vI i1), (2, vI i2)] [] h := by
  obtain ⟨p, e, R, s, m, args, below, meth, c, Q, ⟨hx, hb, hr, hlk, hml, hown, hk, hRr, htb, hnm, hsB, htr, hQ⟩, hV, hX⟩ := C
  rw [hV]
  intro H locs ls hR hL hl
  have hb : c.code = cX12_colorsBy := hb
  have hr : meth.sig.returnType = some .int := hr
  have hml : c.maxLocals = 3 := hml
  have hown : s.vm.findClass RX12 = some m.cls := hown
  have hl : lv_has ls 3 (lm [(0, vR a0), (1, vI i1), (2, vI i2)]) := hl
  have hsz : ls.size = c.maxLocals := hl.1.trans hml.symm
  subst hQ
  refine lv_iload_n hx hb dX12_colorsBy_0 rfl (lv_v hl (k := 1) rfl rfl) ?_
  refine lv_if_ne (tgt := 34) hx hb dX12_colorsBy_1 (by decide) (fun c9 => ?_) (fun c9 => ?_)
  · have f := f.1 c9
    refine w_aload_n hx hb dX12_colorsBy_34 rfl (lv_v hl (k := 0) rfl rfl) ?_
    obtain ⟨f1, f⟩ := f
    refine w_get (i := 22) (k := 1) (v := .int (gI h 881 a0)) hx hb hown hk hR clk_X12 f1 (by decide) (by decide) q2047 (fun _ h9 => h9) rfl dX12_colorsBy_35 ?_
    exact w_iret hx hb hr hlk hR hL dX12_colorsBy_38 f
  · have f := f.2 c9
    refine w_aload_n hx hb dX12_colorsBy_4 rfl (lv_v hl (k := 0) rfl rfl) ?_
    obtain ⟨f1, f⟩ := f
    refine w_get (i := 22) (k := 0) (v := vr (gR h 880 a0)) hx hb hown hk hR clk_X12 f1 (by decide) (by decide) q2043 (fun _ h9 => h9) rfl dX12_colorsBy_5 ?_
    refine w_call (mi := mX10_color) (As := [vR (gR h 880 a0)]) (rest := []) (len := 3) hk hR hL hsz hsB htr hRr (cok_V (i := 16) (C := RX10) (argsL := []) hx hb hown hk hR f.1 (by decide) rfl q1613 q1372 q1373 q1374 kX10_color.1 kX10_color.2 rfl dX12_colorsBy_8) f.2 wX10_color iX10_color (by decide) (cat_sum _ (Nat.le_of_ble_eq_true rfl)) rfl (fun v h1 H locs f hR hL => ?_) (fun q h9 H locs hp hR hL => x_out hown hlk hR hL (fun x9 h9 => by rw [htb] at h9; exact absurd h9 List.not_mem_nil) ⟨hp.1, hp.2.1⟩ hp.2.2)
    obtain ⟨ri1, rfl, f⟩ := f
    show Wn p l e R s m args below meth c H locs _ (F0 m 11 ls [.int ri1])
    refine lv_iload_n hx hb dX12_colorsBy_11 rfl (lv_v hl (k := 2) rfl rfl) ?_
    refine lv_icmp_ne (tgt := 21) hx hb dX12_colorsBy_12 (by decide) (fun c9 => ?_) (fun c9 => ?_)
    · have f := f.1 c9
      refine w_aload_n hx hb dX12_colorsBy_21 rfl (lv_v hl (k := 0) rfl rfl) ?_
      obtain ⟨f1, f⟩ := f
      refine w_get (i := 22) (k := 1) (v := .int (gI h1 881 a0)) hx hb hown hk hR clk_X12 f1 (by decide) (by decide) q2047 (fun _ h9 => h9) rfl dX12_colorsBy_22 ?_
      refine w_iconst hx hb dX12_colorsBy_25 ?_
      refine lv_iload_n hx hb dX12_colorsBy_26 rfl (lv_v hl (k := 2) rfl rfl) ?_
      refine w_ishl hx hb dX12_colorsBy_27 ?_
      refine w_iconst hx hb dX12_colorsBy_28 ?_
      refine lv_ixor hx hb dX12_colorsBy_29 ?_
      refine lv_iand hx hb dX12_colorsBy_30 ?_
      refine lv_goto (tgt := 38) hx hb dX12_colorsBy_31 (by decide) ?_
      exact w_iret hx hb hr hlk hR hL dX12_colorsBy_38 f
    · have f := f.2 c9
      refine w_iconst hx hb dX12_colorsBy_15 ?_
      refine lv_iload_n hx hb dX12_colorsBy_16 rfl (lv_v hl (k := 2) rfl rfl) ?_
      refine w_ishl hx hb dX12_colorsBy_17 ?_
      refine lv_goto (tgt := 38) hx hb dX12_colorsBy_18 (by decide) ?_
      exact w_iret hx hb hr hlk hR hL dX12_colorsBy_38 f
theorem t_X12_colorsBy {G : Wd} {l : Launch} {d : Nat} {post : Option Value → VH → Prop} {xp : Nat → VH → Prop} {i1 i2 : Int32} {a0 : Nat} {h : VH} (hd : 9 ≤ d)
    (f : (¬ i1 = 0 → ((kd h a0 = 23) ∧ (post (some (.int (gI h 881 a0))) h))) ∧ (i1 = 0 → ((kd h a0 = 23) ∧ ((kd h (gR h 880 a0) = 17) ∧ D G l (d - 1) mX10_color [vR (gR h 880 a0)] h (fun v h1 => ∃ ri1, v = some (.int ri1) ∧ ((¬ ri1 = i2 → ((kd h1 a0 = 23) ∧ (post (some (.int ((gI h1 881 a0) &&& ((jshl (jI 1) i2) ^^^ (jI (-1)))))) h1))) ∧ (ri1 = i2 → (post (some (.int (jshl (jI 1) i2))) h1)))) xp)))) : D G l d mX12_colorsBy [vR a0, vI i1, vI i2] h post xp := D_in hd rfl rfl fun V XV C => b_X12_colorsBy_0 C f
theorem b_X12_copy_0 {G : Wd} {l : Launch} {d : Nat} {post : Option Value → VH → Prop} {xp : Nat → VH → Prop} {V : Nat → List (Nat × VT) → List Value → VH → Prop} {XV : Nat → List (Nat × VT) → Nat → VH → Prop} (C : Ctx G l d mX12_copy post xp V XV) {a0 : Nat} {h : VH}
    (f : (hz h ≤ wC G) ∧ (hs h + 4 ≤ wS G) ∧ (∀ h1 : VH, h1 = al h 23 0 4 → ((kd h1 a0 = 23) ∧ ((kd h1 a0 = 23) ∧ ((kd h1 a0 = 23) ∧ ((hz h) ≠ 0 ∧ D G l d mX12_init [vR (hz h), vR (gR h1 880 a0), vI (gI h1 881 a0), vI (gI h1 882 a0)] h1 (fun v h2 => v = none ∧ ((kd h2 a0 = 23) ∧ ((kd h2 (hz h) = 23) ∧ (narrow .boolean (.int (gI h2 883 a0)) = .int (gI h2 883 a0) ∧ fits .boolean (.int (gI h2 883 a0)) = true) ∧ (∀ h3 : VH, h3 = sI h2 883 (hz h) (gI h2 883 a0) → (post (some (vr (hz h))) h3))))) xp)))))) : V 0 [(0, vR a0)] [] h := by
  obtain ⟨p, e, R, s, m, args, below, meth, c, Q, ⟨hx, hb, hr, hlk, hml, hown, hk, hRr, htb, hnm, hsB, htr, hQ⟩, hV, hX⟩ := C
  rw [hV]
  intro H locs ls hR hL hl
  have hb : c.code = cX12_copy := hb
  have hr : meth.sig.returnType = some (.object "HintTeam$Held") := hr
  have hml : c.maxLocals = 2 := hml
  have hown : s.vm.findClass RX12 = some m.cls := hown
  have hl : lv_has ls 2 (lm [(0, vR a0)]) := hl
  have hsz : ls.size = c.maxLocals := hl.1.trans hml.symm
  subst hQ
  obtain ⟨f1, f2, f⟩ := f
  refine w_new hx hb hown hk hR hL hRr.2.2.1 hRr.2.2.2.1 hsB clk_X12 q2169 q2037 q200 f1 f2 (fun k hk => by match k, hk with | 0, _ => rfl | 1, _ => rfl | 2, _ => rfl | 3, _ => rfl | k + 4, hk => exact absurd hk (by omega)) (by decide) (by decide) dX12_copy_0 (fun H hR => ?_)
  obtain ⟨h1, eh1⟩ : ∃ z : VH, z = al h 23 0 4 := ⟨_, rfl⟩
  have hR : Rp G h1 H := by rw [eh1]; exact hR
  have f := f h1 eh1
  refine lv_dup hx hb dX12_copy_3 (vr_cat _) ?_
  refine w_aload_n hx hb dX12_copy_4 rfl (lv_v hl (k := 0) rfl rfl) ?_
  obtain ⟨f1, f⟩ := f
  refine w_get (i := 22) (k := 0) (v := vr (gR h1 880 a0)) hx hb hown hk hR clk_X12 f1 (by decide) (by decide) q2043 (fun _ h9 => h9) rfl dX12_copy_5 ?_
  refine w_aload_n hx hb dX12_copy_8 rfl (lv_v hl (k := 0) rfl rfl) ?_
  obtain ⟨f1, f⟩ := f
  refine w_get (i := 22) (k := 1) (v := .int (gI h1 881 a0)) hx hb hown hk hR clk_X12 f1 (by decide) (by decide) q2047 (fun _ h9 => h9) rfl dX12_copy_9 ?_
  refine w_aload_n hx hb dX12_copy_12 rfl (lv_v hl (k := 0) rfl rfl) ?_
  obtain ⟨f1, f⟩ := f
  refine w_get (i := 22) (k := 2) (v := .int (gI h1 882 a0)) hx hb hown hk hR clk_X12 f1 (by decide) (by decide) q2049 (fun _ h9 => h9) rfl dX12_copy_13 ?_
  refine w_call (mi := mX12_init) (As := [vR (hz h), vR (gR h1 880 a0), vI (gI h1 881 a0), vI (gI h1 882 a0)]) (rest := [vr (hz h)]) (len := 3) hk hR hL hsz hsB htr hRr (cok_I (argsL := [vr (gR h1 880 a0), .int (gI h1 881 a0), .int (gI h1 882 a0)]) hx hb hown hk f.1 rfl q2170 q2040 q2041 kX12_init.1 kX12_init.2 rfl dX12_copy_16) f.2 wX12_init iX12_init (by decide) (cat_sum _ (Nat.le_of_ble_eq_true rfl)) rfl (fun v h2 H locs f hR hL => ?_) (fun q h9 H locs hp hR hL => x_out hown hlk hR hL (fun x9 h9 => by rw [htb] at h9; exact absurd h9 List.not_mem_nil) ⟨hp.1, hp.2.1⟩ hp.2.2)
  obtain ⟨rfl, f⟩ := f
  show Wn p l e R s m args below meth c H locs _ (F0 m 19 ls [vr (hz h)])
  refine w_astore_n' (L' := [(1, vR (hz h)), (0, vR a0)]) hx hb dX12_copy_19 rfl hl (by decide) rfl (fun ls hl => ?_)
  have hsz : ls.size = c.maxLocals := hl.1.trans hml.symm
  refine w_aload_n (a := hz h) hx hb dX12_copy_20 rfl (lv_v hl (k := 0) rfl rfl) ?_
  refine w_aload_n hx hb dX12_copy_21 rfl (lv_v hl (k := 1) rfl rfl) ?_
  obtain ⟨f1, f⟩ := f
  refine w_get (i := 22) (k := 3) (v := .int (gI h2 883 a0)) hx hb hown hk hR clk_X12 f1 (by decide) (by decide) q2051 (fun _ h9 => h9) rfl dX12_copy_22 ?_
  obtain ⟨f1, f2, f⟩ := f
  refine w_put (i := 22) (k := 3) (c1 := cI (h2.1 (hz h)) 883 (gI h2 883 a0)) hx hb hown hk hR hL clk_X12 f1 (by decide) (by decide) q2051 (fun _ h9 => h9) rfl f2 rfl (pvI clk_X12 (by decide) rfl rfl) dX12_copy_25 (fun H locs hR hL => ?_)
  obtain ⟨h3, eh3⟩ : ∃ z : VH, z = sI h2 883 (hz h) (gI h2 883 a0) := ⟨_, rfl⟩
  have hR : Rp G h3 H := by rw [eh3]; exact hR
  have f := f h3 eh3
  refine w_aload_n (a := hz h) hx hb dX12_copy_28 rfl (lv_v hl (k := 0) rfl rfl) ?_
  exact w_aret hx hb hr (Or.inl ⟨_, rfl⟩) hlk hR hL dX12_copy_29 f
theorem t_X12_copy {G : Wd} {l : Launch} {d : Nat} {post : Option Value → VH → Prop} {xp : Nat → VH → Prop} {a0 : Nat} {h : VH} (hd : 9 ≤ d)
    (f : (hz h ≤ wC G) ∧ (hs h + 4 ≤ wS G) ∧ (∀ h1 : VH, h1 = al h 23 0 4 → ((kd h1 a0 = 23) ∧ ((kd h1 a0 = 23) ∧ ((kd h1 a0 = 23) ∧ ((hz h) ≠ 0 ∧ D G l (d - 1) mX12_init [vR (hz h), vR (gR h1 880 a0), vI (gI h1 881 a0), vI (gI h1 882 a0)] h1 (fun v h2 => v = none ∧ ((kd h2 a0 = 23) ∧ ((kd h2 (hz h) = 23) ∧ (narrow .boolean (.int (gI h2 883 a0)) = .int (gI h2 883 a0) ∧ fits .boolean (.int (gI h2 883 a0)) = true) ∧ (∀ h3 : VH, h3 = sI h2 883 (hz h) (gI h2 883 a0) → (post (some (vr (hz h))) h3))))) xp)))))) : D G l d mX12_copy [vR a0] h post xp := D_in hd rfl rfl fun V XV C => b_X12_copy_0 C f
theorem b_X12_init_0 {G : Wd} {l : Launch} {d : Nat} {post : Option Value → VH → Prop} {xp : Nat → VH → Prop} {V : Nat → List (Nat × VT) → List Value → VH → Prop} {XV : Nat → List (Nat × VT) → Nat → VH → Prop} (C : Ctx G l d mX12_init post xp V XV) {i2 i3 : Int32} {a0 a1 : Nat} {h : VH}
    (f : a0 ≠ 0 ∧ ((kd h a0 = 23) ∧ (∀ h1 : VH, h1 = sR h 880 a0 a1 → ((kd h1 a0 = 23) ∧ (∀ h2 : VH, h2 = sI h1 881 a0 i2 → ((kd h2 a0 = 23) ∧ (∀ h3 : VH, h3 = sI h2 882 a0 i3 → (post none h3)))))))) : V 0 [(0, vR a0), (1, vR a1), (2, vI i2), (3, vI i3)] [] h := by
  obtain ⟨p, e, R, s, m, args, below, meth, c, Q, ⟨hx, hb, hr, hlk, hml, hown, hk, hRr, htb, hnm, hsB, htr, hQ⟩, hV, hX⟩ := C
  rw [hV]
  intro H locs ls hR hL hl
  have hb : c.code = cX12_init := hb
  have hr : meth.sig.returnType = none := hr
  have hml : c.maxLocals = 4 := hml
  have hown : s.vm.findClass RX12 = some m.cls := hown
  have hl : lv_has ls 4 (lm [(0, vR a0), (1, vR a1), (2, vI i2), (3, vI i3)]) := hl
  have hsz : ls.size = c.maxLocals := hl.1.trans hml.symm
  subst hQ
  refine w_aload_n hx hb dX12_init_0 rfl (lv_v hl (k := 0) rfl rfl) ?_
  obtain ⟨f1, f⟩ := f
  refine w_oinit hx hb hown hk f1 hRr q2042 q211 q212 hsz dX12_init_1 (Nat.le_of_ble_eq_true rfl) ?_
  refine w_aload_n hx hb dX12_init_4 rfl (lv_v hl (k := 0) rfl rfl) ?_
  refine w_aload_n hx hb dX12_init_5 rfl (lv_v hl (k := 1) rfl rfl) ?_
  obtain ⟨f1, f⟩ := f
  refine w_putF (i := 22) (k := 0) (c1 := cR (h.1 a0) 880 a1) hx hb hown hk hR hL clk_X12 f1 (by decide) (by decide) q2043 (fun _ h9 => h9) rfl hnm rfl (vr_fit rfl _) rfl (pvR clk_X12 (by decide) rfl rfl) dX12_init_6 (fun H locs hR hL => ?_)
  obtain ⟨h1, eh1⟩ : ∃ z : VH, z = sR h 880 a0 a1 := ⟨_, rfl⟩
  have hR : Rp G h1 H := by rw [eh1]; exact hR
  have f := f h1 eh1
  refine w_aload_n hx hb dX12_init_9 rfl (lv_v hl (k := 0) rfl rfl) ?_
  refine lv_iload_n hx hb dX12_init_10 rfl (lv_v hl (k := 2) rfl rfl) ?_
  obtain ⟨f1, f⟩ := f
  refine w_put (i := 22) (k := 1) (c1 := cI (h1.1 a0) 881 i2) hx hb hown hk hR hL clk_X12 f1 (by decide) (by decide) q2047 (fun _ h9 => h9) rfl ⟨rfl, rfl⟩ rfl (pvI clk_X12 (by decide) rfl rfl) dX12_init_11 (fun H locs hR hL => ?_)
  obtain ⟨h2, eh2⟩ : ∃ z : VH, z = sI h1 881 a0 i2 := ⟨_, rfl⟩
  have hR : Rp G h2 H := by rw [eh2]; exact hR
  have f := f h2 eh2
  refine w_aload_n hx hb dX12_init_14 rfl (lv_v hl (k := 0) rfl rfl) ?_
  refine lv_iload_n hx hb dX12_init_15 rfl (lv_v hl (k := 3) rfl rfl) ?_
  obtain ⟨f1, f⟩ := f
  refine w_put (i := 22) (k := 2) (c1 := cI (h2.1 a0) 882 i3) hx hb hown hk hR hL clk_X12 f1 (by decide) (by decide) q2049 (fun _ h9 => h9) rfl ⟨rfl, rfl⟩ rfl (pvI clk_X12 (by decide) rfl rfl) dX12_init_16 (fun H locs hR hL => ?_)
  obtain ⟨h3, eh3⟩ : ∃ z : VH, z = sI h2 882 a0 i3 := ⟨_, rfl⟩
  have hR : Rp G h3 H := by rw [eh3]; exact hR
  have f := f h3 eh3
  exact w_vret hx hb hr hlk hR hL dX12_init_19 f
theorem t_X12_init {G : Wd} {l : Launch} {d : Nat} {post : Option Value → VH → Prop} {xp : Nat → VH → Prop} {i2 i3 : Int32} {a0 a1 : Nat} {h : VH} (hd : 9 ≤ d)
    (f : a0 ≠ 0 ∧ ((kd h a0 = 23) ∧ (∀ h1 : VH, h1 = sR h 880 a0 a1 → ((kd h1 a0 = 23) ∧ (∀ h2 : VH, h2 = sI h1 881 a0 i2 → ((kd h2 a0 = 23) ∧ (∀ h3 : VH, h3 = sI h2 882 a0 i3 → (post none h3)))))))) : D G l d mX12_init [vR a0, vR a1, vI i2, vI i3] h post xp := D_in hd rfl rfl fun V XV C => b_X12_init_0 C f
theorem b_X12_isOf_0 {G : Wd} {l : Launch} {d : Nat} {post : Option Value → VH → Prop} {xp : Nat → VH → Prop} {V : Nat → List (Nat × VT) → List Value → VH → Prop} {XV : Nat → List (Nat × VT) → Nat → VH → Prop} (C : Ctx G l d mX12_isOf post xp V XV) {i1 i2 : Int32} {a0 : Nat} {h : VH}
    (f : (¬ i1 = 0 → ((kd h a0 = 23) ∧ ((kd h (gR h 880 a0) = 17) ∧ D G l d mX10_rank [vR (gR h 880 a0)] h (fun v h1 => ∃ ri1, v = some (.int ri1) ∧ ((¬ ri1 = i2 → (post (some (.int (jI 0))) h1)) ∧ (ri1 = i2 → (post (some (.int (jI 1))) h1)))) xp))) ∧ (i1 = 0 → ((kd h a0 = 23) ∧ ((kd h (gR h 880 a0) = 17) ∧ D G l d mX10_color [vR (gR h 880 a0)] h (fun v h2 => ∃ ri2, v = some (.int ri2) ∧ ((¬ ri2 = i2 → (post (some (.int (jI 0))) h2)) ∧ (ri2 = i2 → (post (some (.int (jI 1))) h2)))) xp)))) : V 0 [(0, vR a0), (1, vI i1), (2, vI i2)] [] h := by
  obtain ⟨p, e, R, s, m, args, below, meth, c, Q, ⟨hx, hb, hr, hlk, hml, hown, hk, hRr, htb, hnm, hsB, htr, hQ⟩, hV, hX⟩ := C
  rw [hV]
  intro H locs ls hR hL hl
  have hb : c.code = cX12_isOf := hb
  have hr : meth.sig.returnType = some .boolean := hr
  have hml : c.maxLocals = 3 := hml
  have hown : s.vm.findClass RX12 = some m.cls := hown
  have hl : lv_has ls 3 (lm [(0, vR a0), (1, vI i1), (2, vI i2)]) := hl
  have hsz : ls.size = c.maxLocals := hl.1.trans hml.symm
  subst hQ
  refine lv_iload_n hx hb dX12_isOf_0 rfl (lv_v hl (k := 1) rfl rfl) ?_
  refine lv_if_ne (tgt := 23) hx hb dX12_isOf_1 (by decide) (fun c9 => ?_) (fun c9 => ?_)
  · have f := f.1 c9
    refine w_aload_n hx hb dX12_isOf_23 rfl (lv_v hl (k := 0) rfl rfl) ?_
    obtain ⟨f1, f⟩ := f
    refine w_get (i := 22) (k := 0) (v := vr (gR h 880 a0)) hx hb hown hk hR clk_X12 f1 (by decide) (by decide) q2043 (fun _ h9 => h9) rfl dX12_isOf_24 ?_
    refine w_call (mi := mX10_rank) (As := [vR (gR h 880 a0)]) (rest := []) (len := 3) hk hR hL hsz hsB htr hRr (cok_V (i := 16) (C := RX10) (argsL := []) hx hb hown hk hR f.1 (by decide) rfl q1614 q1376 q1377 q1378 kX10_rank.1 kX10_rank.2 rfl dX12_isOf_27) f.2 wX10_rank iX10_rank (by decide) (cat_sum _ (Nat.le_of_ble_eq_true rfl)) rfl (fun v h1 H locs f hR hL => ?_) (fun q h9 H locs hp hR hL => x_out hown hlk hR hL (fun x9 h9 => by rw [htb] at h9; exact absurd h9 List.not_mem_nil) ⟨hp.1, hp.2.1⟩ hp.2.2)
    obtain ⟨ri1, rfl, f⟩ := f
    show Wn p l e R s m args below meth c H locs _ (F0 m 30 ls [.int ri1])
    refine lv_iload_n hx hb dX12_isOf_30 rfl (lv_v hl (k := 2) rfl rfl) ?_
    refine lv_icmp_ne (tgt := 38) hx hb dX12_isOf_31 (by decide) (fun c9 => ?_) (fun c9 => ?_)
    · have f := f.1 c9
      refine w_iconst hx hb dX12_isOf_38 ?_
      exact w_zret hx hb hr hlk hR hL dX12_isOf_39 rfl f
    · have f := f.2 c9
      refine w_iconst hx hb dX12_isOf_34 ?_
      refine lv_goto (tgt := 39) hx hb dX12_isOf_35 (by decide) ?_
      exact w_zret hx hb hr hlk hR hL dX12_isOf_39 rfl f
  · have f := f.2 c9
    refine w_aload_n hx hb dX12_isOf_4 rfl (lv_v hl (k := 0) rfl rfl) ?_
    obtain ⟨f1, f⟩ := f
    refine w_get (i := 22) (k := 0) (v := vr (gR h 880 a0)) hx hb hown hk hR clk_X12 f1 (by decide) (by decide) q2043 (fun _ h9 => h9) rfl dX12_isOf_5 ?_
    refine w_call (mi := mX10_color) (As := [vR (gR h 880 a0)]) (rest := []) (len := 3) hk hR hL hsz hsB htr hRr (cok_V (i := 16) (C := RX10) (argsL := []) hx hb hown hk hR f.1 (by decide) rfl q1613 q1372 q1373 q1374 kX10_color.1 kX10_color.2 rfl dX12_isOf_8) f.2 wX10_color iX10_color (by decide) (cat_sum _ (Nat.le_of_ble_eq_true rfl)) rfl (fun v h2 H locs f hR hL => ?_) (fun q h9 H locs hp hR hL => x_out hown hlk hR hL (fun x9 h9 => by rw [htb] at h9; exact absurd h9 List.not_mem_nil) ⟨hp.1, hp.2.1⟩ hp.2.2)
    obtain ⟨ri2, rfl, f⟩ := f
    show Wn p l e R s m args below meth c H locs _ (F0 m 11 ls [.int ri2])
    refine lv_iload_n hx hb dX12_isOf_11 rfl (lv_v hl (k := 2) rfl rfl) ?_
    refine lv_icmp_ne (tgt := 19) hx hb dX12_isOf_12 (by decide) (fun c9 => ?_) (fun c9 => ?_)
    · have f := f.1 c9
      refine w_iconst hx hb dX12_isOf_19 ?_
      refine lv_goto (tgt := 39) hx hb dX12_isOf_20 (by decide) ?_
      exact w_zret hx hb hr hlk hR hL dX12_isOf_39 rfl f
    · have f := f.2 c9
      refine w_iconst hx hb dX12_isOf_15 ?_
      refine lv_goto (tgt := 39) hx hb dX12_isOf_16 (by decide) ?_
      exact w_zret hx hb hr hlk hR hL dX12_isOf_39 rfl f
theorem t_X12_isOf {G : Wd} {l : Launch} {d : Nat} {post : Option Value → VH → Prop} {xp : Nat → VH → Prop} {i1 i2 : Int32} {a0 : Nat} {h : VH} (hd : 9 ≤ d)
    (f : (¬ i1 = 0 → ((kd h a0 = 23) ∧ ((kd h (gR h 880 a0) = 17) ∧ D G l (d - 1) mX10_rank [vR (gR h 880 a0)] h (fun v h1 => ∃ ri1, v = some (.int ri1) ∧ ((¬ ri1 = i2 → (post (some (.int (jI 0))) h1)) ∧ (ri1 = i2 → (post (some (.int (jI 1))) h1)))) xp))) ∧ (i1 = 0 → ((kd h a0 = 23) ∧ ((kd h (gR h 880 a0) = 17) ∧ D G l (d - 1) mX10_color [vR (gR h 880 a0)] h (fun v h2 => ∃ ri2, v = some (.int ri2) ∧ ((¬ ri2 = i2 → (post (some (.int (jI 0))) h2)) ∧ (ri2 = i2 → (post (some (.int (jI 1))) h2)))) xp)))) : D G l d mX12_isOf [vR a0, vI i1, vI i2] h post xp := D_in hd rfl rfl fun V XV C => b_X12_isOf_0 C f
theorem b_X12_isTold_0 {G : Wd} {l : Launch} {d : Nat} {post : Option Value → VH → Prop} {xp : Nat → VH → Prop} {V : Nat → List (Nat × VT) → List Value → VH → Prop} {XV : Nat → List (Nat × VT) → Nat → VH → Prop} (C : Ctx G l d mX12_isTold post xp V XV) {i1 i2 : Int32} {a0 : Nat} {h : VH}
    (f : (kd h a0 = 23) ∧ D G l d mX12_ranksBy [vR a0, vI i1, vI i2] h (fun v h1 => ∃ ri1, v = some (.int ri1) ∧ ((kd h1 a0 = 23) ∧ D G l d mX12_colorsBy [vR a0, vI i1, vI i2] h1 (fun v h2 => ∃ ri2, v = some (.int ri2) ∧ ((kd h2 a0 = 23) ∧ (∀ h3 : VH, h3 = sI h2 881 a0 ri2 → ((kd h3 a0 = 23) ∧ (∀ h4 : VH, h4 = sI h3 882 a0 ri1 → ((kd h4 a0 = 23) ∧ ((kd h4 a0 = 23) ∧ D G l d mX12_isOf [vR a0, vI i1, vI i2] h4 (fun v h5 => ∃ ri5, v = some (.int ri5) ∧ ((kd h5 a0 = 23) ∧ (narrow .boolean (.int ((gI h4 883 a0) ||| ri5)) = .int ((gI h4 883 a0) ||| ri5) ∧ fits .boolean (.int ((gI h4 883 a0) ||| ri5)) = true) ∧ (∀ h6 : VH, h6 = sI h5 883 a0 ((gI h4 883 a0) ||| ri5) → (post none h6)))) xp))))))) xp)) xp) : V 0 [(0, vR a0), (1, vI i1), (2, vI i2)] [] h := by
  obtain ⟨p, e, R, s, m, args, below, meth, c, Q, ⟨hx, hb, hr, hlk, hml, hown, hk, hRr, htb, hnm, hsB, htr, hQ⟩, hV, hX⟩ := C
  rw [hV]
  intro H locs ls hR hL hl
  have hb : c.code = cX12_isTold := hb
  have hr : meth.sig.returnType = none := hr
  have hml : c.maxLocals = 4 := hml
  have hown : s.vm.findClass RX12 = some m.cls := hown
  have hl : lv_has ls 4 (lm [(0, vR a0), (1, vI i1), (2, vI i2)]) := hl
  have hsz : ls.size = c.maxLocals := hl.1.trans hml.symm
  subst hQ
  refine w_aload_n hx hb dX12_isTold_0 rfl (lv_v hl (k := 0) rfl rfl) ?_
  refine lv_iload_n hx hb dX12_isTold_1 rfl (lv_v hl (k := 1) rfl rfl) ?_
  refine lv_iload_n hx hb dX12_isTold_2 rfl (lv_v hl (k := 2) rfl rfl) ?_
  refine w_call (mi := mX12_ranksBy) (As := [vR a0, vI i1, vI i2]) (rest := []) (len := 3) hk hR hL hsz hsB htr hRr (cok_V (i := 22) (C := RX12) (argsL := [.int i1, .int i2]) hx hb hown hk hR f.1 (by decide) rfl q2441 q2373 q2374 q2375 kX12_ranksBy.1 kX12_ranksBy.2 rfl dX12_isTold_3) f.2 wX12_ranksBy iX12_ranksBy (by decide) (cat_sum _ (Nat.le_of_ble_eq_true rfl)) rfl (fun v h1 H locs f hR hL => ?_) (fun q h9 H locs hp hR hL => x_out hown hlk hR hL (fun x9 h9 => by rw [htb] at h9; exact absurd h9 List.not_mem_nil) ⟨hp.1, hp.2.1⟩ hp.2.2)
  obtain ⟨ri1, rfl, f⟩ := f
  show Wn p l e R s m args below meth c H locs _ (F0 m 6 ls [.int ri1])
  refine w_istore_n (L' := [(3, vI ri1), (0, vR a0), (1, vI i1), (2, vI i2)]) hx hb dX12_isTold_6 rfl hl (by decide) rfl (fun ls hl => ?_)
  have hsz : ls.size = c.maxLocals := hl.1.trans hml.symm
  refine w_aload_n hx hb dX12_isTold_7 rfl (lv_v hl (k := 1) rfl rfl) ?_
  refine w_aload_n hx hb dX12_isTold_8 rfl (lv_v hl (k := 1) rfl rfl) ?_
  refine lv_iload_n hx hb dX12_isTold_9 rfl (lv_v hl (k := 2) rfl rfl) ?_
  refine lv_iload_n hx hb dX12_isTold_10 rfl (lv_v hl (k := 3) rfl rfl) ?_
  refine w_call (mi := mX12_colorsBy) (As := [vR a0, vI i1, vI i2]) (rest := [vr a0]) (len := 3) hk hR hL hsz hsB htr hRr (cok_V (i := 22) (C := RX12) (argsL := [.int i1, .int i2]) hx hb hown hk hR f.1 (by decide) rfl q2442 q2369 q2370 q2371 kX12_colorsBy.1 kX12_colorsBy.2 rfl dX12_isTold_11) f.2 wX12_colorsBy iX12_colorsBy (by decide) (cat_sum _ (Nat.le_of_ble_eq_true rfl)) rfl (fun v h2 H locs f hR hL => ?_) (fun q h9 H locs hp hR hL => x_out hown hlk hR hL (fun x9 h9 => by rw [htb] at h9; exact absurd h9 List.not_mem_nil) ⟨hp.1, hp.2.1⟩ hp.2.2)
  obtain ⟨ri2, rfl, f⟩ := f
  show Wn p l e R s m args below meth c H locs _ (F0 m 14 ls [.int ri2, vr a0])
  obtain ⟨f1, f⟩ := f
  refine w_put (i := 22) (k := 1) (c1 := cI (h2.1 a0) 881 ri2) hx hb hown hk hR hL clk_X12 f1 (by decide) (by decide) q2047 (fun _ h9 => h9) rfl ⟨rfl, rfl⟩ rfl (pvI clk_X12 (by decide) rfl rfl) dX12_isTold_14 (fun H locs hR hL => ?_)
  obtain ⟨h3, eh3⟩ : ∃ z : VH, z = sI h2 881 a0 ri2 := ⟨_, rfl⟩
  have hR : Rp G h3 H := by rw [eh3]; exact hR
  have f := f h3 eh3
  refine w_aload_n hx hb dX12_isTold_17 rfl (lv_v hl (k := 1) rfl rfl) ?_
  refine lv_iload_n hx hb dX12_isTold_18 rfl (lv_v hl (k := 0) rfl rfl) ?_
  obtain ⟨f1, f⟩ := f
  refine w_put (i := 22) (k := 2) (c1 := cI (h3.1 a0) 882 ri1) hx hb hown hk hR hL clk_X12 f1 (by decide) (by decide) q2049 (fun _ h9 => h9) rfl ⟨rfl, rfl⟩ rfl (pvI clk_X12 (by decide) rfl rfl) dX12_isTold_19 (fun H locs hR hL => ?_)
  obtain ⟨h4, eh4⟩ : ∃ z : VH, z = sI h3 882 a0 ri1 := ⟨_, rfl⟩
  have hR : Rp G h4 H := by rw [eh4]; exact hR
  have f := f h4 eh4
  refine w_aload_n hx hb dX12_isTold_22 rfl (lv_v hl (k := 1) rfl rfl) ?_
  refine lv_dup hx hb dX12_isTold_23 (vr_cat _) ?_
  obtain ⟨f1, f⟩ := f
  refine w_get (i := 22) (k := 3) (v := .int (gI h4 883 a0)) hx hb hown hk hR clk_X12 f1 (by decide) (by decide) q2051 (fun _ h9 => h9) rfl dX12_isTold_24 ?_
  refine w_aload_n hx hb dX12_isTold_27 rfl (lv_v hl (k := 1) rfl rfl) ?_
  refine lv_iload_n hx hb dX12_isTold_28 rfl (lv_v hl (k := 2) rfl rfl) ?_
  refine lv_iload_n hx hb dX12_isTold_29 rfl (lv_v hl (k := 3) rfl rfl) ?_
  refine w_call (mi := mX12_isOf) (As := [vR a0, vI i1, vI i2]) (rest := [.int (gI h4 883 a0), vr a0]) (len := 3) hk hR hL hsz hsB htr hRr (cok_V (i := 22) (C := RX12) (argsL := [.int i1, .int i2]) hx hb hown hk hR f.1 (by decide) rfl q2443 q1610 q1611 q1612 kX12_isOf.1 kX12_isOf.2 rfl dX12_isTold_30) f.2 wX12_isOf iX12_isOf (by decide) (cat_sum _ (Nat.le_of_ble_eq_true rfl)) rfl (fun v h5 H locs f hR hL => ?_) (fun q h9 H locs hp hR hL => x_out hown hlk hR hL (fun x9 h9 => by rw [htb] at h9; exact absurd h9 List.not_mem_nil) ⟨hp.1, hp.2.1⟩ hp.2.2)
  obtain ⟨ri5, rfl, f⟩ := f
  show Wn p l e R s m args below meth c H locs _ (F0 m 33 ls [.int ri5, .int (gI h4 883 a0), vr a0])
  refine lv_ior hx hb dX12_isTold_33 ?_
  obtain ⟨f1, f2, f⟩ := f
  refine w_put (i := 22) (k := 3) (c1 := cI (h5.1 a0) 883 ((gI h4 883 a0) ||| ri5)) hx hb hown hk hR hL clk_X12 f1 (by decide) (by decide) q2051 (fun _ h9 => h9) rfl f2 rfl (pvI clk_X12 (by decide) rfl rfl) dX12_isTold_34 (fun H locs hR hL => ?_)
  obtain ⟨h6, eh6⟩ : ∃ z : VH, z = sI h5 883 a0 ((gI h4 883 a0) ||| ri5) := ⟨_, rfl⟩
  have hR : Rp G h6 H := by rw [eh6]; exact hR
  have f := f h6 eh6
  exact w_vret hx hb hr hlk hR hL dX12_isTold_37 f
theorem t_X12_isTold {G : Wd} {l : Launch} {d : Nat} {post : Option Value → VH → Prop} {xp : Nat → VH → Prop} {i1 i2 : Int32} {a0 : Nat} {h : VH} (hd : 9 ≤ d)
    (f : (kd h a0 = 23) ∧ D G l (d - 1) mX12_ranksBy [vR a0, vI i1, vI i2] h (fun v h1 => ∃ ri1, v = some (.int ri1) ∧ ((kd h1 a0 = 23) ∧ D G l (d - 1) mX12_colorsBy [vR a0, vI i1, vI i2] h1 (fun v h2 => ∃ ri2, v = some (.int ri2) ∧ ((kd h2 a0 = 23) ∧ (∀ h3 : VH, h3 = sI h2 881 a0 ri2 → ((kd h3 a0 = 23) ∧ (∀ h4 : VH, h4 = sI h3 882 a0 ri1 → ((kd h4 a0 = 23) ∧ ((kd h4 a0 = 23) ∧ D G l (d - 1) mX12_isOf [vR a0, vI i1, vI i2] h4 (fun v h5 => ∃ ri5, v = some (.int ri5) ∧ ((kd h5 a0 = 23) ∧ (narrow .boolean (.int ((gI h4 883 a0) ||| ri5)) = .int ((gI h4 883 a0) ||| ri5) ∧ fits .boolean (.int ((gI h4 883 a0) ||| ri5)) = true) ∧ (∀ h6 : VH, h6 = sI h5 883 a0 ((gI h4 883 a0) ||| ri5) → (post none h6)))) xp))))))) xp)) xp) : D G l d mX12_isTold [vR a0, vI i1, vI i2] h post xp := D_in hd rfl rfl fun V XV C => b_X12_isTold_0 C f
theorem b_X12_ranksBy_0 {G : Wd} {l : Launch} {d : Nat} {post : Option Value → VH → Prop} {xp : Nat → VH → Prop} {V : Nat → List (Nat × VT) → List Value → VH → Prop} {XV : Nat → List (Nat × VT) → Nat → VH → Prop} (C : Ctx G l d mX12_ranksBy post xp V XV) {i1 i2 : Int32} {a0 : Nat} {h : VH}
    (f : (¬ i1 = (jI 1) → ((kd h a0 = 23) ∧ (post (some (.int (gI h 882 a0))) h))) ∧ (i1 = (jI 1) → ((kd h a0 = 23) ∧ ((kd h (gR h 880 a0) = 17) ∧ D G l d mX10_rank [vR (gR h 880 a0)] h (fun v h1 => ∃ ri1, v = some (.int ri1) ∧ ((¬ ri1 = i2 → ((kd h1 a0 = 23) ∧ (post (some (.int ((gI h1 882 a0) &&& ((jshl (jI 1) (i2 - (jI 1))) ^^^ (jI (-1)))))) h1))) ∧ (ri1 = i2 → (post (some (.int (jshl (jI 1) (i2 - (jI 1))))) h1)))) xp)))) : V 0 [(0, vR a0), (1, vI i1), (2, vI i2)] [] h := by
  obtain ⟨p, e, R, s, m, args, below, meth, c, Q, ⟨hx, hb, hr, hlk, hml, hown, hk, hRr, htb, hnm, hsB, htr, hQ⟩, hV, hX⟩ := C
  rw [hV]
  intro H locs ls hR hL hl
  have hb : c.code = cX12_ranksBy := hb
  have hr : meth.sig.returnType = some .int := hr
  have hml : c.maxLocals = 3 := hml
  have hown : s.vm.findClass RX12 = some m.cls := hown
  have hl : lv_has ls 3 (lm [(0, vR a0), (1, vI i1), (2, vI i2)]) := hl
  have hsz : ls.size = c.maxLocals := hl.1.trans hml.symm
  subst hQ
  refine lv_iload_n hx hb dX12_ranksBy_0 rfl (lv_v hl (k := 1) rfl rfl) ?_
  refine w_iconst hx hb dX12_ranksBy_1 ?_
  refine lv_icmp_ne (tgt := 39) hx hb dX12_ranksBy_2 (by decide) (fun c9 => ?_) (fun c9 => ?_)
  · have f := f.1 c9
    refine w_aload_n hx hb dX12_ranksBy_39 rfl (lv_v hl (k := 0) rfl rfl) ?_
    obtain ⟨f1, f⟩ := f
    refine w_get (i := 22) (k := 2) (v := .int (gI h 882 a0)) hx hb hown hk hR clk_X12 f1 (by decide) (by decide) q2049 (fun _ h9 => h9) rfl dX12_ranksBy_40 ?_
    exact w_iret hx hb hr hlk hR hL dX12_ranksBy_43 f
  · have f := f.2 c9
    refine w_aload_n hx hb dX12_ranksBy_5 rfl (lv_v hl (k := 0) rfl rfl) ?_
    obtain ⟨f1, f⟩ := f
    refine w_get (i := 22) (k := 0) (v := vr (gR h 880 a0)) hx hb hown hk hR clk_X12 f1 (by decide) (by decide) q2043 (fun _ h9 => h9) rfl dX12_ranksBy_6 ?_
    refine w_call (mi := mX10_rank) (As := [vR (gR h 880 a0)]) (rest := []) (len := 3) hk hR hL hsz hsB htr hRr (cok_V (i := 16) (C := RX10) (argsL := []) hx hb hown hk hR f.1 (by decide) rfl q1614 q1376 q1377 q1378 kX10_rank.1 kX10_rank.2 rfl dX12_ranksBy_9) f.2 wX10_rank iX10_rank (by decide) (cat_sum _ (Nat.le_of_ble_eq_true rfl)) rfl (fun v h1 H locs f hR hL => ?_) (fun q h9 H locs hp hR hL => x_out hown hlk hR hL (fun x9 h9 => by rw [htb] at h9; exact absurd h9 List.not_mem_nil) ⟨hp.1, hp.2.1⟩ hp.2.2)
    obtain ⟨ri1, rfl, f⟩ := f
    show Wn p l e R s m args below meth c H locs _ (F0 m 12 ls [.int ri1])
    refine lv_iload_n hx hb dX12_ranksBy_12 rfl (lv_v hl (k := 2) rfl rfl) ?_
    refine lv_icmp_ne (tgt := 24) hx hb dX12_ranksBy_13 (by decide) (fun c9 => ?_) (fun c9 => ?_)
    · have f := f.1 c9
      refine w_aload_n hx hb dX12_ranksBy_24 rfl (lv_v hl (k := 0) rfl rfl) ?_
      obtain ⟨f1, f⟩ := f
      refine w_get (i := 22) (k := 2) (v := .int (gI h1 882 a0)) hx hb hown hk hR clk_X12 f1 (by decide) (by decide) q2049 (fun _ h9 => h9) rfl dX12_ranksBy_25 ?_
      refine w_iconst hx hb dX12_ranksBy_28 ?_
      refine lv_iload_n hx hb dX12_ranksBy_29 rfl (lv_v hl (k := 2) rfl rfl) ?_
      refine w_iconst hx hb dX12_ranksBy_30 ?_
      refine lv_isub hx hb dX12_ranksBy_31 ?_
      refine w_ishl hx hb dX12_ranksBy_32 ?_
      refine w_iconst hx hb dX12_ranksBy_33 ?_
      refine lv_ixor hx hb dX12_ranksBy_34 ?_
      refine lv_iand hx hb dX12_ranksBy_35 ?_
      refine lv_goto (tgt := 43) hx hb dX12_ranksBy_36 (by decide) ?_
      exact w_iret hx hb hr hlk hR hL dX12_ranksBy_43 f
    · have f := f.2 c9
      refine w_iconst hx hb dX12_ranksBy_16 ?_
      refine lv_iload_n hx hb dX12_ranksBy_17 rfl (lv_v hl (k := 2) rfl rfl) ?_
      refine w_iconst hx hb dX12_ranksBy_18 ?_
      refine lv_isub hx hb dX12_ranksBy_19 ?_
      refine w_ishl hx hb dX12_ranksBy_20 ?_
      refine lv_goto (tgt := 43) hx hb dX12_ranksBy_21 (by decide) ?_
      exact w_iret hx hb hr hlk hR hL dX12_ranksBy_43 f
theorem t_X12_ranksBy {G : Wd} {l : Launch} {d : Nat} {post : Option Value → VH → Prop} {xp : Nat → VH → Prop} {i1 i2 : Int32} {a0 : Nat} {h : VH} (hd : 9 ≤ d)
    (f : (¬ i1 = (jI 1) → ((kd h a0 = 23) ∧ (post (some (.int (gI h 882 a0))) h))) ∧ (i1 = (jI 1) → ((kd h a0 = 23) ∧ ((kd h (gR h 880 a0) = 17) ∧ D G l (d - 1) mX10_rank [vR (gR h 880 a0)] h (fun v h1 => ∃ ri1, v = some (.int ri1) ∧ ((¬ ri1 = i2 → ((kd h1 a0 = 23) ∧ (post (some (.int ((gI h1 882 a0) &&& ((jshl (jI 1) (i2 - (jI 1))) ^^^ (jI (-1)))))) h1))) ∧ (ri1 = i2 → (post (some (.int (jshl (jI 1) (i2 - (jI 1))))) h1)))) xp)))) : D G l d mX12_ranksBy [vR a0, vI i1, vI i2] h post xp := D_in hd rfl rfl fun V XV C => b_X12_ranksBy_0 C f
theorem b_X12_written_0 {G : Wd} {l : Launch} {d : Nat} {post : Option Value → VH → Prop} {xp : Nat → VH → Prop} {V : Nat → List (Nat × VT) → List Value → VH → Prop} {XV : Nat → List (Nat × VT) → Nat → VH → Prop} (C : Ctx G l d mX12_written post xp V XV) {i1 : Int32} {a0 : Nat} {h : VH}
    (f : (i1 = 0 → ((kd h a0 = 23) ∧ (D G l d mJ19_bitCount [vI (gI h 881 a0)] h (fun v h1 => ∃ ri1, v = some (.int ri1) ∧ ((¬ ri1 = (jI 1) → ((hz h1 ≤ wC G) ∧ (hs h1 + 4 ≤ wS G) ∧ (∀ h2 : VH, h2 = al h1 6 0 4 → ((hz h1) ≠ 0 ∧ D G l d mJ10_init [vR (hz h1)] h2 (fun v h3 => v = none ∧ ((kd h3 (hz h1) = 6) ∧ D G l d mJ10_append [vR (hz h1), vR (wA G 21 + 1)] h3 (fun v h4 => ∃ ra4, v = some (vr ra4) ∧ ((kd h4 a0 = 23) ∧ (D G l d mJ19_bitCount [vI (gI h4 882 a0)] h4 (fun v h5 => ∃ ri5, v = some (.int ri5) ∧ ((¬ ri5 = (jI 1) → ((kd h5 ra4 = 6) ∧ D G l d mJ10_append [vR ra4, vR (wA G 21 + 1)] h5 (fun v h6 => ∃ ra6, v = some (vr ra6) ∧ ((kd h6 ra6 = 6) ∧ D G l d mJ10_toString [vR ra6] h6 (fun v h7 => ∃ ra7, v = some (vr ra7) ∧ (post (some (vr ra7)) h7)) xp)) xp)) ∧ (ri5 = (jI 1) → ((hz h5 ≤ wC G) ∧ (hs h5 + 4 ≤ wS G) ∧ (∀ h8 : VH, h8 = al h5 6 0 4 → ((hz h5) ≠ 0 ∧ D G l d mJ10_init [vR (hz h5)] h8 (fun v h9 => v = none ∧ ((kd h9 (hz h5) = 6) ∧ D G l d mJ10_append [vR (hz h5), vR (wA G 20 + 1)] h9 (fun v h10 => ∃ ra10, v = some (vr ra10) ∧ ((kd h10 a0 = 23) ∧ (D G l d mJ19_numberOfTrailingZeros [vI (gI h10 882 a0)] h10 (fun v h11 => ∃ ri11, v = some (.int ri11) ∧ ((kd h11 ra10 = 6) ∧ D G l d mJ10_append_2 [vR ra10, vI (ri11 + (jI 1))] h11 (fun v h12 => ∃ ra12, v = some (vr ra12) ∧ ((kd h12 ra12 = 6) ∧ D G l d mJ10_toString [vR ra12] h12 (fun v h13 => ∃ ra13, v = some (vr ra13) ∧ ((kd h13 ra4 = 6) ∧ D G l d mJ10_append [vR ra4, vR ra13] h13 (fun v h14 => ∃ ra14, v = some (vr ra14) ∧ ((kd h14 ra14 = 6) ∧ D G l d mJ10_toString [vR ra14] h14 (fun v h15 => ∃ ra15, v = some (vr ra15) ∧ (post (some (vr ra15)) h15)) xp)) xp)) xp)) xp)) xp))) xp)) xp)))))) xp))) xp)) xp)))) ∧ (ri1 = (jI 1) → ((hz h1 ≤ wC G) ∧ (hs h1 + 4 ≤ wS G) ∧ (∀ h16 : VH, h16 = al h1 6 0 4 → ((hz h1) ≠ 0 ∧ D G l d mJ10_init [vR (hz h1)] h16 (fun v h17 => v = none ∧ ((kd h17 (hz h1) = 6) ∧ D G l d mJ10_append [vR (hz h1), vR (wA G 20 + 1)] h17 (fun v h18 => ∃ ra18, v = some (vr ra18) ∧ ((kd h18 a0 = 23) ∧ (D G l d mJ19_numberOfTrailingZeros [vI (gI h18 881 a0)] h18 (fun v h19 => ∃ ri19, v = some (.int ri19) ∧ ((kd h19 ra18 = 6) ∧ D G l d mJ10_append_3 [vR ra18, vI (ji2c ((jI 97) + ri19))] h19 (fun v h20 => ∃ ra20, v = some (vr ra20) ∧ ((kd h20 ra20 = 6) ∧ D G l d mJ10_toString [vR ra20] h20 (fun v h21 => ∃ ra21, v = some (vr ra21) ∧ ((hz h21 ≤ wC G) ∧ (hs h21 + 4 ≤ wS G) ∧ (∀ h22 : VH, h22 = al h21 6 0 4 → ((hz h21) ≠ 0 ∧ D G l d mJ10_init [vR (hz h21)] h22 (fun v h23 => v = none ∧ ((kd h23 (hz h21) = 6) ∧ D G l d mJ10_append [vR (hz h21), vR ra21] h23 (fun v h24 => ∃ ra24, v = some (vr ra24) ∧ ((kd h24 a0 = 23) ∧ (D G l d mJ19_bitCount [vI (gI h24 882 a0)] h24 (fun v h25 => ∃ ri25, v = some (.int ri25) ∧ ((¬ ri25 = (jI 1) → ((kd h25 ra24 = 6) ∧ D G l d mJ10_append [vR ra24, vR (wA G 21 + 1)] h25 (fun v h26 => ∃ ra26, v = some (vr ra26) ∧ ((kd h26 ra26 = 6) ∧ D G l d mJ10_toString [vR ra26] h26 (fun v h27 => ∃ ra27, v = some (vr ra27) ∧ (post (some (vr ra27)) h27)) xp)) xp)) ∧ (ri25 = (jI 1) → ((hz h25 ≤ wC G) ∧ (hs h25 + 4 ≤ wS G) ∧ (∀ h28 : VH, h28 = al h25 6 0 4 → ((hz h25) ≠ 0 ∧ D G l d mJ10_init [vR (hz h25)] h28 (fun v h29 => v = none ∧ ((kd h29 (hz h25) = 6) ∧ D G l d mJ10_append [vR (hz h25), vR (wA G 20 + 1)] h29 (fun v h30 => ∃ ra30, v = some (vr ra30) ∧ ((kd h30 a0 = 23) ∧ (D G l d mJ19_numberOfTrailingZeros [vI (gI h30 882 a0)] h30 (fun v h31 => ∃ ri31, v = some (.int ri31) ∧ ((kd h31 ra30 = 6) ∧ D G l d mJ10_append_2 [vR ra30, vI (ri31 + (jI 1))] h31 (fun v h32 => ∃ ra32, v = some (vr ra32) ∧ ((kd h32 ra32 = 6) ∧ D G l d mJ10_toString [vR ra32] h32 (fun v h33 => ∃ ra33, v = some (vr ra33) ∧ ((kd h33 ra24 = 6) ∧ D G l d mJ10_append [vR ra24, vR ra33] h33 (fun v h34 => ∃ ra34, v = some (vr ra34) ∧ ((kd h34 ra34 = 6) ∧ D G l d mJ10_toString [vR ra34] h34 (fun v h35 => ∃ ra35, v = some (vr ra35) ∧ (post (some (vr ra35)) h35)) xp)) xp)) xp)) xp)) xp))) xp)) xp)))))) xp))) xp)) xp)))) xp)) xp)) xp))) xp)) xp)))))) xp))) ∧ (¬ i1 = 0 → ((kd h a0 = 23) ∧ ((kd h (gR h 880 a0) = 17) ∧ D G l d mX10_written [vR (gR h 880 a0)] h (fun v h36 => ∃ ra36, v = some (vr ra36) ∧ (post (some (vr ra36)) h36)) xp)))) : V 0 [(0, vR a0), (1, vI i1)] [] h := by
  obtain ⟨p, e, R, s, m, args, below, meth, c, Q, ⟨hx, hb, hr, hlk, hml, hown, hk, hRr, htb, hnm, hsB, htr, hQ⟩, hV, hX⟩ := C
  rw [hV]
  intro H locs ls hR hL hl
  have hb : c.code = cX12_written := hb
  have hr : meth.sig.returnType = some (.object "java/lang/String") := hr
  have hml : c.maxLocals = 3 := hml
  have hown : s.vm.findClass RX12 = some m.cls := hown
  have hl : lv_has ls 3 (lm [(0, vR a0), (1, vI i1)]) := hl
  have hsz : ls.size = c.maxLocals := hl.1.trans hml.symm
  subst hQ
  refine lv_iload_n hx hb dX12_written_0 rfl (lv_v hl (k := 1) rfl rfl) ?_
  refine lv_if_eq (tgt := 12) hx hb dX12_written_1 (by decide) (fun c9 => ?_) (fun c9 => ?_)
  · have f := f.1 c9
    refine w_aload_n hx hb dX12_written_12 rfl (lv_v hl (k := 0) rfl rfl) ?_
    obtain ⟨f1, f⟩ := f
    refine w_get (i := 22) (k := 1) (v := .int (gI h 881 a0)) hx hb hown hk hR clk_X12 f1 (by decide) (by decide) q2047 (fun _ h9 => h9) rfl dX12_written_13 ?_
    refine w_call (mi := mJ19_bitCount) (As := [vI (gI h 881 a0)]) (rest := []) (len := 3) hk hR hL hsz hsB htr hRr (cok_S (argsL := [.int (gI h 881 a0)]) hx hb hown hk (q2959) q2432 q172 q2433 kJ19_bitCount.1 kJ19_bitCount.2 rfl dX12_written_16) f wJ19_bitCount iJ19_bitCount (by decide) (cat_sum _ (Nat.le_of_ble_eq_true rfl)) rfl (fun v h1 H locs f hR hL => ?_) (fun q h9 H locs hp hR hL => x_out hown hlk hR hL (fun x9 h9 => by rw [htb] at h9; exact absurd h9 List.not_mem_nil) ⟨hp.1, hp.2.1⟩ hp.2.2)
    obtain ⟨ri1, rfl, f⟩ := f
    show Wn p l e R s m args below meth c H locs _ (F0 m 19 ls [.int ri1])
    refine w_iconst hx hb dX12_written_19 ?_
    refine lv_icmp_ne (tgt := 55) hx hb dX12_written_20 (by decide) (fun c9 => ?_) (fun c9 => ?_)
    · have f := f.1 c9
      refine w_ldcS (own := "HintTeam$Held") (tx := "?") (q := wA G 21) hx hb hown hk (by simp [SCL]) dX12_written_55 ?_
      refine w_astore_n' (L' := [(2, vR (wA G 21 + 1)), (0, vR a0), (1, vI i1)]) hx hb dX12_written_57 rfl hl (by decide) rfl (fun ls hl => ?_)
      have hsz : ls.size = c.maxLocals := hl.1.trans hml.symm
      obtain ⟨f1, f2, f⟩ := f
      refine w_new hx hb hown hk hR hL hRr.2.2.1 hRr.2.2.2.1 hsB clk_J10 q2960 q404 q162 f1 f2 (fun k hk => by match k, hk with | 0, _ => rfl | 1, _ => rfl | 2, _ => rfl | 3, _ => rfl | k + 4, hk => exact absurd hk (by omega)) (by decide) (by decide) dX12_written_58 (fun H hR => ?_)
      obtain ⟨h2, eh2⟩ : ∃ z : VH, z = al h1 6 0 4 := ⟨_, rfl⟩
      have hR : Rp G h2 H := by rw [eh2]; exact hR
      have f := f h2 eh2
      refine lv_dup hx hb dX12_written_61 (vr_cat _) ?_
      refine w_call (mi := mJ10_init) (As := [vR (hz h1)]) (rest := [vr (hz h1)]) (len := 3) hk hR hL hsz hsB htr hRr (cok_I (argsL := []) hx hb hown hk f.1 rfl q2961 q406 q407 kJ10_init.1 kJ10_init.2 rfl dX12_written_62) f.2 wJ10_init iJ10_init (by decide) (cat_sum _ (Nat.le_of_ble_eq_true rfl)) rfl (fun v h3 H locs f hR hL => ?_) (fun q h9 H locs hp hR hL => x_out hown hlk hR hL (fun x9 h9 => by rw [htb] at h9; exact absurd h9 List.not_mem_nil) ⟨hp.1, hp.2.1⟩ hp.2.2)
      obtain ⟨rfl, f⟩ := f
      show Wn p l e R s m args below meth c H locs _ (F0 m 65 ls [vr (hz h1)])
      refine w_aload_n (a := wA G 21 + 1) hx hb dX12_written_65 rfl (lv_v hl (k := 0) rfl rfl) ?_
      refine w_call (mi := mJ10_append) (As := [vR (hz h1), vR (wA G 21 + 1)]) (rest := []) (len := 3) hk hR hL hsz hsB htr hRr (cok_V (i := 5) (C := RJ10) (argsL := [vr (wA G 21 + 1)]) hx hb hown hk hR f.1 (by decide) rfl q2963 q438 q439 q440 kJ10_append.1 kJ10_append.2 rfl dX12_written_66) f.2 wJ10_append iJ10_append (by decide) (cat_sum _ (Nat.le_of_ble_eq_true rfl)) rfl (fun v h4 H locs f hR hL => ?_) (fun q h9 H locs hp hR hL => x_out hown hlk hR hL (fun x9 h9 => by rw [htb] at h9; exact absurd h9 List.not_mem_nil) ⟨hp.1, hp.2.1⟩ hp.2.2)
      obtain ⟨ra4, rfl, f⟩ := f
      show Wn p l e R s m args below meth c H locs _ (F0 m 69 ls [vr ra4])
      refine w_aload_n hx hb dX12_written_69 rfl (lv_v hl (k := 1) rfl rfl) ?_
      obtain ⟨f1, f⟩ := f
      refine w_get (i := 22) (k := 2) (v := .int (gI h4 882 a0)) hx hb hown hk hR clk_X12 f1 (by decide) (by decide) q2049 (fun _ h9 => h9) rfl dX12_written_70 ?_
      refine w_call (mi := mJ19_bitCount) (As := [vI (gI h4 882 a0)]) (rest := [vr ra4]) (len := 3) hk hR hL hsz hsB htr hRr (cok_S (argsL := [.int (gI h4 882 a0)]) hx hb hown hk (q2959) q2432 q172 q2433 kJ19_bitCount.1 kJ19_bitCount.2 rfl dX12_written_73) f wJ19_bitCount iJ19_bitCount (by decide) (cat_sum _ (Nat.le_of_ble_eq_true rfl)) rfl (fun v h5 H locs f hR hL => ?_) (fun q h9 H locs hp hR hL => x_out hown hlk hR hL (fun x9 h9 => by rw [htb] at h9; exact absurd h9 List.not_mem_nil) ⟨hp.1, hp.2.1⟩ hp.2.2)
      obtain ⟨ri5, rfl, f⟩ := f
      show Wn p l e R s m args below meth c H locs _ (F0 m 76 ls [.int ri5, vr ra4])
      refine w_iconst hx hb dX12_written_76 ?_
      refine lv_icmp_ne (tgt := 110) hx hb dX12_written_77 (by decide) (fun c9 => ?_) (fun c9 => ?_)
      · have f := f.1 c9
        refine w_ldcS (own := "HintTeam$Held") (tx := "?") (q := wA G 21) hx hb hown hk (by simp [SCL]) dX12_written_110 ?_
        refine w_call (mi := mJ10_append) (As := [vR ra4, vR (wA G 21 + 1)]) (rest := []) (len := 3) hk hR hL hsz hsB htr hRr (cok_V (i := 5) (C := RJ10) (argsL := [vr (wA G 21 + 1)]) hx hb hown hk hR f.1 (by decide) rfl q2963 q438 q439 q440 kJ10_append.1 kJ10_append.2 rfl dX12_written_112) f.2 wJ10_append iJ10_append (by decide) (cat_sum _ (Nat.le_of_ble_eq_true rfl)) rfl (fun v h6 H locs f hR hL => ?_) (fun q h9 H locs hp hR hL => x_out hown hlk hR hL (fun x9 h9 => by rw [htb] at h9; exact absurd h9 List.not_mem_nil) ⟨hp.1, hp.2.1⟩ hp.2.2)
        obtain ⟨ra6, rfl, f⟩ := f
        show Wn p l e R s m args below meth c H locs _ (F0 m 115 ls [vr ra6])
        refine w_call (mi := mJ10_toString) (As := [vR ra6]) (rest := []) (len := 3) hk hR hL hsz hsB htr hRr (cok_V (i := 5) (C := RJ10) (argsL := []) hx hb hown hk hR f.1 (by decide) rfl q2966 q583 q584 q585 kJ10_toString.1 kJ10_toString.2 rfl dX12_written_115) f.2 wJ10_toString iJ10_toString (by decide) (cat_sum _ (Nat.le_of_ble_eq_true rfl)) rfl (fun v h7 H locs f hR hL => ?_) (fun q h9 H locs hp hR hL => x_out hown hlk hR hL (fun x9 h9 => by rw [htb] at h9; exact absurd h9 List.not_mem_nil) ⟨hp.1, hp.2.1⟩ hp.2.2)
        obtain ⟨ra7, rfl, f⟩ := f
        show Wn p l e R s m args below meth c H locs _ (F0 m 118 ls [vr ra7])
        exact w_aret hx hb hr (Or.inl ⟨_, rfl⟩) hlk hR hL dX12_written_118 f
      · have f := f.2 c9
        obtain ⟨f1, f2, f⟩ := f
        refine w_new hx hb hown hk hR hL hRr.2.2.1 hRr.2.2.2.1 hsB clk_J10 q2960 q404 q162 f1 f2 (fun k hk => by match k, hk with | 0, _ => rfl | 1, _ => rfl | 2, _ => rfl | 3, _ => rfl | k + 4, hk => exact absurd hk (by omega)) (by decide) (by decide) dX12_written_80 (fun H hR => ?_)
        obtain ⟨h8, eh8⟩ : ∃ z : VH, z = al h5 6 0 4 := ⟨_, rfl⟩
        have hR : Rp G h8 H := by rw [eh8]; exact hR
        have f := f h8 eh8
        refine lv_dup hx hb dX12_written_83 (vr_cat _) ?_
        refine w_call (mi := mJ10_init) (As := [vR (hz h5)]) (rest := [vr (hz h5), vr ra4]) (len := 3) hk hR hL hsz hsB htr hRr (cok_I (argsL := []) hx hb hown hk f.1 rfl q2961 q406 q407 kJ10_init.1 kJ10_init.2 rfl dX12_written_84) f.2 wJ10_init iJ10_init (by decide) (cat_sum _ (Nat.le_of_ble_eq_true rfl)) rfl (fun v h9 H locs f hR hL => ?_) (fun q h9 H locs hp hR hL => x_out hown hlk hR hL (fun x9 h9 => by rw [htb] at h9; exact absurd h9 List.not_mem_nil) ⟨hp.1, hp.2.1⟩ hp.2.2)
        obtain ⟨rfl, f⟩ := f
        show Wn p l e R s m args below meth c H locs _ (F0 m 87 ls [vr (hz h5), vr ra4])
        refine w_ldcS (own := "HintTeam$Held") (tx := "") (q := wA G 20) hx hb hown hk (by simp [SCL]) dX12_written_87 ?_
        refine w_call (mi := mJ10_append) (As := [vR (hz h5), vR (wA G 20 + 1)]) (rest := [vr ra4]) (len := 3) hk hR hL hsz hsB htr hRr (cok_V (i := 5) (C := RJ10) (argsL := [vr (wA G 20 + 1)]) hx hb hown hk hR f.1 (by decide) rfl q2963 q438 q439 q440 kJ10_append.1 kJ10_append.2 rfl dX12_written_89) f.2 wJ10_append iJ10_append (by decide) (cat_sum _ (Nat.le_of_ble_eq_true rfl)) rfl (fun v h10 H locs f hR hL => ?_) (fun q h9 H locs hp hR hL => x_out hown hlk hR hL (fun x9 h9 => by rw [htb] at h9; exact absurd h9 List.not_mem_nil) ⟨hp.1, hp.2.1⟩ hp.2.2)
        obtain ⟨ra10, rfl, f⟩ := f
        show Wn p l e R s m args below meth c H locs _ (F0 m 92 ls [vr ra10, vr ra4])
        refine w_aload_n hx hb dX12_written_92 rfl (lv_v hl (k := 1) rfl rfl) ?_
        obtain ⟨f1, f⟩ := f
        refine w_get (i := 22) (k := 2) (v := .int (gI h10 882 a0)) hx hb hown hk hR clk_X12 f1 (by decide) (by decide) q2049 (fun _ h9 => h9) rfl dX12_written_93 ?_
        refine w_call (mi := mJ19_numberOfTrailingZeros) (As := [vI (gI h10 882 a0)]) (rest := [vr ra10, vr ra4]) (len := 3) hk hR hL hsz hsB htr hRr (cok_S (argsL := [.int (gI h10 882 a0)]) hx hb hown hk (q2964) q1862 q172 q1863 kJ19_numberOfTrailingZeros.1 kJ19_numberOfTrailingZeros.2 rfl dX12_written_96) f wJ19_numberOfTrailingZeros iJ19_numberOfTrailingZeros (by decide) (cat_sum _ (Nat.le_of_ble_eq_true rfl)) rfl (fun v h11 H locs f hR hL => ?_) (fun q h9 H locs hp hR hL => x_out hown hlk hR hL (fun x9 h9 => by rw [htb] at h9; exact absurd h9 List.not_mem_nil) ⟨hp.1, hp.2.1⟩ hp.2.2)
        obtain ⟨ri11, rfl, f⟩ := f
        show Wn p l e R s m args below meth c H locs _ (F0 m 99 ls [.int ri11, vr ra10, vr ra4])
        refine w_iconst hx hb dX12_written_99 ?_
        refine lv_iadd hx hb dX12_written_100 ?_
        refine w_call (mi := mJ10_append_2) (As := [vR ra10, vI (ri11 + (jI 1))]) (rest := [vr ra4]) (len := 3) hk hR hL hsz hsB htr hRr (cok_V (i := 5) (C := RJ10) (argsL := [.int (ri11 + (jI 1))]) hx hb hown hk hR f.1 (by decide) rfl q2968 q558 q559 q560 kJ10_append_2.1 kJ10_append_2.2 rfl dX12_written_101) f.2 wJ10_append_2 iJ10_append_2 (by decide) (cat_sum _ (Nat.le_of_ble_eq_true rfl)) rfl (fun v h12 H locs f hR hL => ?_) (fun q h9 H locs hp hR hL => x_out hown hlk hR hL (fun x9 h9 => by rw [htb] at h9; exact absurd h9 List.not_mem_nil) ⟨hp.1, hp.2.1⟩ hp.2.2)
        obtain ⟨ra12, rfl, f⟩ := f
        show Wn p l e R s m args below meth c H locs _ (F0 m 104 ls [vr ra12, vr ra4])
        refine w_call (mi := mJ10_toString) (As := [vR ra12]) (rest := [vr ra4]) (len := 3) hk hR hL hsz hsB htr hRr (cok_V (i := 5) (C := RJ10) (argsL := []) hx hb hown hk hR f.1 (by decide) rfl q2966 q583 q584 q585 kJ10_toString.1 kJ10_toString.2 rfl dX12_written_104) f.2 wJ10_toString iJ10_toString (by decide) (cat_sum _ (Nat.le_of_ble_eq_true rfl)) rfl (fun v h13 H locs f hR hL => ?_) (fun q h9 H locs hp hR hL => x_out hown hlk hR hL (fun x9 h9 => by rw [htb] at h9; exact absurd h9 List.not_mem_nil) ⟨hp.1, hp.2.1⟩ hp.2.2)
        obtain ⟨ra13, rfl, f⟩ := f
        show Wn p l e R s m args below meth c H locs _ (F0 m 107 ls [vr ra13, vr ra4])
        refine lv_goto (tgt := 112) hx hb dX12_written_107 (by decide) ?_
        refine w_call (mi := mJ10_append) (As := [vR ra4, vR ra13]) (rest := []) (len := 3) hk hR hL hsz hsB htr hRr (cok_V (i := 5) (C := RJ10) (argsL := [vr ra13]) hx hb hown hk hR f.1 (by decide) rfl q2963 q438 q439 q440 kJ10_append.1 kJ10_append.2 rfl dX12_written_112) f.2 wJ10_append iJ10_append (by decide) (cat_sum _ (Nat.le_of_ble_eq_true rfl)) rfl (fun v h14 H locs f hR hL => ?_) (fun q h9 H locs hp hR hL => x_out hown hlk hR hL (fun x9 h9 => by rw [htb] at h9; exact absurd h9 List.not_mem_nil) ⟨hp.1, hp.2.1⟩ hp.2.2)
        obtain ⟨ra14, rfl, f⟩ := f
        show Wn p l e R s m args below meth c H locs _ (F0 m 115 ls [vr ra14])
        refine w_call (mi := mJ10_toString) (As := [vR ra14]) (rest := []) (len := 3) hk hR hL hsz hsB htr hRr (cok_V (i := 5) (C := RJ10) (argsL := []) hx hb hown hk hR f.1 (by decide) rfl q2966 q583 q584 q585 kJ10_toString.1 kJ10_toString.2 rfl dX12_written_115) f.2 wJ10_toString iJ10_toString (by decide) (cat_sum _ (Nat.le_of_ble_eq_true rfl)) rfl (fun v h15 H locs f hR hL => ?_) (fun q h9 H locs hp hR hL => x_out hown hlk hR hL (fun x9 h9 => by rw [htb] at h9; exact absurd h9 List.not_mem_nil) ⟨hp.1, hp.2.1⟩ hp.2.2)
        obtain ⟨ra15, rfl, f⟩ := f
        show Wn p l e R s m args below meth c H locs _ (F0 m 118 ls [vr ra15])
        exact w_aret hx hb hr (Or.inl ⟨_, rfl⟩) hlk hR hL dX12_written_118 f
    · have f := f.2 c9
      obtain ⟨f1, f2, f⟩ := f
      refine w_new hx hb hown hk hR hL hRr.2.2.1 hRr.2.2.2.1 hsB clk_J10 q2960 q404 q162 f1 f2 (fun k hk => by match k, hk with | 0, _ => rfl | 1, _ => rfl | 2, _ => rfl | 3, _ => rfl | k + 4, hk => exact absurd hk (by omega)) (by decide) (by decide) dX12_written_23 (fun H hR => ?_)
      obtain ⟨h16, eh16⟩ : ∃ z : VH, z = al h1 6 0 4 := ⟨_, rfl⟩
      have hR : Rp G h16 H := by rw [eh16]; exact hR
      have f := f h16 eh16
      refine lv_dup hx hb dX12_written_26 (vr_cat _) ?_
      refine w_call (mi := mJ10_init) (As := [vR (hz h1)]) (rest := [vr (hz h1)]) (len := 3) hk hR hL hsz hsB htr hRr (cok_I (argsL := []) hx hb hown hk f.1 rfl q2961 q406 q407 kJ10_init.1 kJ10_init.2 rfl dX12_written_27) f.2 wJ10_init iJ10_init (by decide) (cat_sum _ (Nat.le_of_ble_eq_true rfl)) rfl (fun v h17 H locs f hR hL => ?_) (fun q h9 H locs hp hR hL => x_out hown hlk hR hL (fun x9 h9 => by rw [htb] at h9; exact absurd h9 List.not_mem_nil) ⟨hp.1, hp.2.1⟩ hp.2.2)
      obtain ⟨rfl, f⟩ := f
      show Wn p l e R s m args below meth c H locs _ (F0 m 30 ls [vr (hz h1)])
      refine w_ldcS (own := "HintTeam$Held") (tx := "") (q := wA G 20) hx hb hown hk (by simp [SCL]) dX12_written_30 ?_
      refine w_call (mi := mJ10_append) (As := [vR (hz h1), vR (wA G 20 + 1)]) (rest := []) (len := 3) hk hR hL hsz hsB htr hRr (cok_V (i := 5) (C := RJ10) (argsL := [vr (wA G 20 + 1)]) hx hb hown hk hR f.1 (by decide) rfl q2963 q438 q439 q440 kJ10_append.1 kJ10_append.2 rfl dX12_written_32) f.2 wJ10_append iJ10_append (by decide) (cat_sum _ (Nat.le_of_ble_eq_true rfl)) rfl (fun v h18 H locs f hR hL => ?_) (fun q h9 H locs hp hR hL => x_out hown hlk hR hL (fun x9 h9 => by rw [htb] at h9; exact absurd h9 List.not_mem_nil) ⟨hp.1, hp.2.1⟩ hp.2.2)
      obtain ⟨ra18, rfl, f⟩ := f
      show Wn p l e R s m args below meth c H locs _ (F0 m 35 ls [vr ra18])
      refine w_bipush hx hb dX12_written_35 (by decide) ?_
      refine w_aload_n hx hb dX12_written_37 rfl (lv_v hl (k := 0) rfl rfl) ?_
      obtain ⟨f1, f⟩ := f
      refine w_get (i := 22) (k := 1) (v := .int (gI h18 881 a0)) hx hb hown hk hR clk_X12 f1 (by decide) (by decide) q2047 (fun _ h9 => h9) rfl dX12_written_38 ?_
      refine w_call (mi := mJ19_numberOfTrailingZeros) (As := [vI (gI h18 881 a0)]) (rest := [.int (jI 97), vr ra18]) (len := 3) hk hR hL hsz hsB htr hRr (cok_S (argsL := [.int (gI h18 881 a0)]) hx hb hown hk (q2964) q1862 q172 q1863 kJ19_numberOfTrailingZeros.1 kJ19_numberOfTrailingZeros.2 rfl dX12_written_41) f wJ19_numberOfTrailingZeros iJ19_numberOfTrailingZeros (by decide) (cat_sum _ (Nat.le_of_ble_eq_true rfl)) rfl (fun v h19 H locs f hR hL => ?_) (fun q h9 H locs hp hR hL => x_out hown hlk hR hL (fun x9 h9 => by rw [htb] at h9; exact absurd h9 List.not_mem_nil) ⟨hp.1, hp.2.1⟩ hp.2.2)
      obtain ⟨ri19, rfl, f⟩ := f
      show Wn p l e R s m args below meth c H locs _ (F0 m 44 ls [.int ri19, .int (jI 97), vr ra18])
      refine lv_iadd hx hb dX12_written_44 ?_
      refine lv_i2c (v := ji2c ((jI 97) + ri19)) hx hb dX12_written_45 rfl ?_
      refine w_call (mi := mJ10_append_3) (As := [vR ra18, vI (ji2c ((jI 97) + ri19))]) (rest := []) (len := 3) hk hR hL hsz hsB htr hRr (cok_V (i := 5) (C := RJ10) (argsL := [.int (ji2c ((jI 97) + ri19))]) hx hb hown hk hR f.1 (by decide) rfl q2965 q996 q997 q998 kJ10_append_3.1 kJ10_append_3.2 rfl dX12_written_46) f.2 wJ10_append_3 iJ10_append_3 (by decide) (cat_sum _ (Nat.le_of_ble_eq_true rfl)) rfl (fun v h20 H locs f hR hL => ?_) (fun q h9 H locs hp hR hL => x_out hown hlk hR hL (fun x9 h9 => by rw [htb] at h9; exact absurd h9 List.not_mem_nil) ⟨hp.1, hp.2.1⟩ hp.2.2)
      obtain ⟨ra20, rfl, f⟩ := f
      show Wn p l e R s m args below meth c H locs _ (F0 m 49 ls [vr ra20])
      refine w_call (mi := mJ10_toString) (As := [vR ra20]) (rest := []) (len := 3) hk hR hL hsz hsB htr hRr (cok_V (i := 5) (C := RJ10) (argsL := []) hx hb hown hk hR f.1 (by decide) rfl q2966 q583 q584 q585 kJ10_toString.1 kJ10_toString.2 rfl dX12_written_49) f.2 wJ10_toString iJ10_toString (by decide) (cat_sum _ (Nat.le_of_ble_eq_true rfl)) rfl (fun v h21 H locs f hR hL => ?_) (fun q h9 H locs hp hR hL => x_out hown hlk hR hL (fun x9 h9 => by rw [htb] at h9; exact absurd h9 List.not_mem_nil) ⟨hp.1, hp.2.1⟩ hp.2.2)
      obtain ⟨ra21, rfl, f⟩ := f
      show Wn p l e R s m args below meth c H locs _ (F0 m 52 ls [vr ra21])
      refine lv_goto (tgt := 57) hx hb dX12_written_52 (by decide) ?_
      refine w_astore_n' (L' := [(2, vR ra21), (0, vR a0), (1, vI i1)]) hx hb dX12_written_57 rfl hl (by decide) rfl (fun ls hl => ?_)
      have hsz : ls.size = c.maxLocals := hl.1.trans hml.symm
      obtain ⟨f1, f2, f⟩ := f
      refine w_new hx hb hown hk hR hL hRr.2.2.1 hRr.2.2.2.1 hsB clk_J10 q2960 q404 q162 f1 f2 (fun k hk => by match k, hk with | 0, _ => rfl | 1, _ => rfl | 2, _ => rfl | 3, _ => rfl | k + 4, hk => exact absurd hk (by omega)) (by decide) (by decide) dX12_written_58 (fun H hR => ?_)
      obtain ⟨h22, eh22⟩ : ∃ z : VH, z = al h21 6 0 4 := ⟨_, rfl⟩
      have hR : Rp G h22 H := by rw [eh22]; exact hR
      have f := f h22 eh22
      refine lv_dup hx hb dX12_written_61 (vr_cat _) ?_
      refine w_call (mi := mJ10_init) (As := [vR (hz h21)]) (rest := [vr (hz h21)]) (len := 3) hk hR hL hsz hsB htr hRr (cok_I (argsL := []) hx hb hown hk f.1 rfl q2961 q406 q407 kJ10_init.1 kJ10_init.2 rfl dX12_written_62) f.2 wJ10_init iJ10_init (by decide) (cat_sum _ (Nat.le_of_ble_eq_true rfl)) rfl (fun v h23 H locs f hR hL => ?_) (fun q h9 H locs hp hR hL => x_out hown hlk hR hL (fun x9 h9 => by rw [htb] at h9; exact absurd h9 List.not_mem_nil) ⟨hp.1, hp.2.1⟩ hp.2.2)
      obtain ⟨rfl, f⟩ := f
      show Wn p l e R s m args below meth c H locs _ (F0 m 65 ls [vr (hz h21)])
      refine w_aload_n hx hb dX12_written_65 rfl (lv_v hl (k := 0) rfl rfl) ?_
      refine w_call (mi := mJ10_append) (As := [vR (hz h21), vR ra21]) (rest := []) (len := 3) hk hR hL hsz hsB htr hRr (cok_V (i := 5) (C := RJ10) (argsL := [vr ra21]) hx hb hown hk hR f.1 (by decide) rfl q2963 q438 q439 q440 kJ10_append.1 kJ10_append.2 rfl dX12_written_66) f.2 wJ10_append iJ10_append (by decide) (cat_sum _ (Nat.le_of_ble_eq_true rfl)) rfl (fun v h24 H locs f hR hL => ?_) (fun q h9 H locs hp hR hL => x_out hown hlk hR hL (fun x9 h9 => by rw [htb] at h9; exact absurd h9 List.not_mem_nil) ⟨hp.1, hp.2.1⟩ hp.2.2)
      obtain ⟨ra24, rfl, f⟩ := f
      show Wn p l e R s m args below meth c H locs _ (F0 m 69 ls [vr ra24])
      refine w_aload_n hx hb dX12_written_69 rfl (lv_v hl (k := 1) rfl rfl) ?_
      obtain ⟨f1, f⟩ := f
      refine w_get (i := 22) (k := 2) (v := .int (gI h24 882 a0)) hx hb hown hk hR clk_X12 f1 (by decide) (by decide) q2049 (fun _ h9 => h9) rfl dX12_written_70 ?_
      refine w_call (mi := mJ19_bitCount) (As := [vI (gI h24 882 a0)]) (rest := [vr ra24]) (len := 3) hk hR hL hsz hsB htr hRr (cok_S (argsL := [.int (gI h24 882 a0)]) hx hb hown hk (q2959) q2432 q172 q2433 kJ19_bitCount.1 kJ19_bitCount.2 rfl dX12_written_73) f wJ19_bitCount iJ19_bitCount (by decide) (cat_sum _ (Nat.le_of_ble_eq_true rfl)) rfl (fun v h25 H locs f hR hL => ?_) (fun q h9 H locs hp hR hL => x_out hown hlk hR hL (fun x9 h9 => by rw [htb] at h9; exact absurd h9 List.not_mem_nil) ⟨hp.1, hp.2.1⟩ hp.2.2)
      obtain ⟨ri25, rfl, f⟩ := f
      show Wn p l e R s m args below meth c H locs _ (F0 m 76 ls [.int ri25, vr ra24])
      refine w_iconst hx hb dX12_written_76 ?_
      refine lv_icmp_ne (tgt := 110) hx hb dX12_written_77 (by decide) (fun c9 => ?_) (fun c9 => ?_)
      · have f := f.1 c9
        refine w_ldcS (own := "HintTeam$Held") (tx := "?") (q := wA G 21) hx hb hown hk (by simp [SCL]) dX12_written_110 ?_
        refine w_call (mi := mJ10_append) (As := [vR ra24, vR (wA G 21 + 1)]) (rest := []) (len := 3) hk hR hL hsz hsB htr hRr (cok_V (i := 5) (C := RJ10) (argsL := [vr (wA G 21 + 1)]) hx hb hown hk hR f.1 (by decide) rfl q2963 q438 q439 q440 kJ10_append.1 kJ10_append.2 rfl dX12_written_112) f.2 wJ10_append iJ10_append (by decide) (cat_sum _ (Nat.le_of_ble_eq_true rfl)) rfl (fun v h26 H locs f hR hL => ?_) (fun q h9 H locs hp hR hL => x_out hown hlk hR hL (fun x9 h9 => by rw [htb] at h9; exact absurd h9 List.not_mem_nil) ⟨hp.1, hp.2.1⟩ hp.2.2)
        obtain ⟨ra26, rfl, f⟩ := f
        show Wn p l e R s m args below meth c H locs _ (F0 m 115 ls [vr ra26])
        refine w_call (mi := mJ10_toString) (As := [vR ra26]) (rest := []) (len := 3) hk hR hL hsz hsB htr hRr (cok_V (i := 5) (C := RJ10) (argsL := []) hx hb hown hk hR f.1 (by decide) rfl q2966 q583 q584 q585 kJ10_toString.1 kJ10_toString.2 rfl dX12_written_115) f.2 wJ10_toString iJ10_toString (by decide) (cat_sum _ (Nat.le_of_ble_eq_true rfl)) rfl (fun v h27 H locs f hR hL => ?_) (fun q h9 H locs hp hR hL => x_out hown hlk hR hL (fun x9 h9 => by rw [htb] at h9; exact absurd h9 List.not_mem_nil) ⟨hp.1, hp.2.1⟩ hp.2.2)
        obtain ⟨ra27, rfl, f⟩ := f
        show Wn p l e R s m args below meth c H locs _ (F0 m 118 ls [vr ra27])
        exact w_aret hx hb hr (Or.inl ⟨_, rfl⟩) hlk hR hL dX12_written_118 f
      · have f := f.2 c9
        obtain ⟨f1, f2, f⟩ := f
        refine w_new hx hb hown hk hR hL hRr.2.2.1 hRr.2.2.2.1 hsB clk_J10 q2960 q404 q162 f1 f2 (fun k hk => by match k, hk with | 0, _ => rfl | 1, _ => rfl | 2, _ => rfl | 3, _ => rfl | k + 4, hk => exact absurd hk (by omega)) (by decide) (by decide) dX12_written_80 (fun H hR => ?_)
        obtain ⟨h28, eh28⟩ : ∃ z : VH, z = al h25 6 0 4 := ⟨_, rfl⟩
        have hR : Rp G h28 H := by rw [eh28]; exact hR
        have f := f h28 eh28
        refine lv_dup hx hb dX12_written_83 (vr_cat _) ?_
        refine w_call (mi := mJ10_init) (As := [vR (hz h25)]) (rest := [vr (hz h25), vr ra24]) (len := 3) hk hR hL hsz hsB htr hRr (cok_I (argsL := []) hx hb hown hk f.1 rfl q2961 q406 q407 kJ10_init.1 kJ10_init.2 rfl dX12_written_84) f.2 wJ10_init iJ10_init (by decide) (cat_sum _ (Nat.le_of_ble_eq_true rfl)) rfl (fun v h29 H locs f hR hL => ?_) (fun q h9 H locs hp hR hL => x_out hown hlk hR hL (fun x9 h9 => by rw [htb] at h9; exact absurd h9 List.not_mem_nil) ⟨hp.1, hp.2.1⟩ hp.2.2)
        obtain ⟨rfl, f⟩ := f
        show Wn p l e R s m args below meth c H locs _ (F0 m 87 ls [vr (hz h25), vr ra24])
        refine w_ldcS (own := "HintTeam$Held") (tx := "") (q := wA G 20) hx hb hown hk (by simp [SCL]) dX12_written_87 ?_
        refine w_call (mi := mJ10_append) (As := [vR (hz h25), vR (wA G 20 + 1)]) (rest := [vr ra24]) (len := 3) hk hR hL hsz hsB htr hRr (cok_V (i := 5) (C := RJ10) (argsL := [vr (wA G 20 + 1)]) hx hb hown hk hR f.1 (by decide) rfl q2963 q438 q439 q440 kJ10_append.1 kJ10_append.2 rfl dX12_written_89) f.2 wJ10_append iJ10_append (by decide) (cat_sum _ (Nat.le_of_ble_eq_true rfl)) rfl (fun v h30 H locs f hR hL => ?_) (fun q h9 H locs hp hR hL => x_out hown hlk hR hL (fun x9 h9 => by rw [htb] at h9; exact absurd h9 List.not_mem_nil) ⟨hp.1, hp.2.1⟩ hp.2.2)
        obtain ⟨ra30, rfl, f⟩ := f
        show Wn p l e R s m args below meth c H locs _ (F0 m 92 ls [vr ra30, vr ra24])
        refine w_aload_n hx hb dX12_written_92 rfl (lv_v hl (k := 1) rfl rfl) ?_
        obtain ⟨f1, f⟩ := f
        refine w_get (i := 22) (k := 2) (v := .int (gI h30 882 a0)) hx hb hown hk hR clk_X12 f1 (by decide) (by decide) q2049 (fun _ h9 => h9) rfl dX12_written_93 ?_
        refine w_call (mi := mJ19_numberOfTrailingZeros) (As := [vI (gI h30 882 a0)]) (rest := [vr ra30, vr ra24]) (len := 3) hk hR hL hsz hsB htr hRr (cok_S (argsL := [.int (gI h30 882 a0)]) hx hb hown hk (q2964) q1862 q172 q1863 kJ19_numberOfTrailingZeros.1 kJ19_numberOfTrailingZeros.2 rfl dX12_written_96) f wJ19_numberOfTrailingZeros iJ19_numberOfTrailingZeros (by decide) (cat_sum _ (Nat.le_of_ble_eq_true rfl)) rfl (fun v h31 H locs f hR hL => ?_) (fun q h9 H locs hp hR hL => x_out hown hlk hR hL (fun x9 h9 => by rw [htb] at h9; exact absurd h9 List.not_mem_nil) ⟨hp.1, hp.2.1⟩ hp.2.2)
        obtain ⟨ri31, rfl, f⟩ := f
        show Wn p l e R s m args below meth c H locs _ (F0 m 99 ls [.int ri31, vr ra30, vr ra24])
        refine w_iconst hx hb dX12_written_99 ?_
        refine lv_iadd hx hb dX12_written_100 ?_
        refine w_call (mi := mJ10_append_2) (As := [vR ra30, vI (ri31 + (jI 1))]) (rest := [vr ra24]) (len := 3) hk hR hL hsz hsB htr hRr (cok_V (i := 5) (C := RJ10) (argsL := [.int (ri31 + (jI 1))]) hx hb hown hk hR f.1 (by decide) rfl q2968 q558 q559 q560 kJ10_append_2.1 kJ10_append_2.2 rfl dX12_written_101) f.2 wJ10_append_2 iJ10_append_2 (by decide) (cat_sum _ (Nat.le_of_ble_eq_true rfl)) rfl (fun v h32 H locs f hR hL => ?_) (fun q h9 H locs hp hR hL => x_out hown hlk hR hL (fun x9 h9 => by rw [htb] at h9; exact absurd h9 List.not_mem_nil) ⟨hp.1, hp.2.1⟩ hp.2.2)
        obtain ⟨ra32, rfl, f⟩ := f
        show Wn p l e R s m args below meth c H locs _ (F0 m 104 ls [vr ra32, vr ra24])
        refine w_call (mi := mJ10_toString) (As := [vR ra32]) (rest := [vr ra24]) (len := 3) hk hR hL hsz hsB htr hRr (cok_V (i := 5) (C := RJ10) (argsL := []) hx hb hown hk hR f.1 (by decide) rfl q2966 q583 q584 q585 kJ10_toString.1 kJ10_toString.2 rfl dX12_written_104) f.2 wJ10_toString iJ10_toString (by decide) (cat_sum _ (Nat.le_of_ble_eq_true rfl)) rfl (fun v h33 H locs f hR hL => ?_) (fun q h9 H locs hp hR hL => x_out hown hlk hR hL (fun x9 h9 => by rw [htb] at h9; exact absurd h9 List.not_mem_nil) ⟨hp.1, hp.2.1⟩ hp.2.2)
        obtain ⟨ra33, rfl, f⟩ := f
        show Wn p l e R s m args below meth c H locs _ (F0 m 107 ls [vr ra33, vr ra24])
        refine lv_goto (tgt := 112) hx hb dX12_written_107 (by decide) ?_
        refine w_call (mi := mJ10_append) (As := [vR ra24, vR ra33]) (rest := []) (len := 3) hk hR hL hsz hsB htr hRr (cok_V (i := 5) (C := RJ10) (argsL := [vr ra33]) hx hb hown hk hR f.1 (by decide) rfl q2963 q438 q439 q440 kJ10_append.1 kJ10_append.2 rfl dX12_written_112) f.2 wJ10_append iJ10_append (by decide) (cat_sum _ (Nat.le_of_ble_eq_true rfl)) rfl (fun v h34 H locs f hR hL => ?_) (fun q h9 H locs hp hR hL => x_out hown hlk hR hL (fun x9 h9 => by rw [htb] at h9; exact absurd h9 List.not_mem_nil) ⟨hp.1, hp.2.1⟩ hp.2.2)
        obtain ⟨ra34, rfl, f⟩ := f
        show Wn p l e R s m args below meth c H locs _ (F0 m 115 ls [vr ra34])
        refine w_call (mi := mJ10_toString) (As := [vR ra34]) (rest := []) (len := 3) hk hR hL hsz hsB htr hRr (cok_V (i := 5) (C := RJ10) (argsL := []) hx hb hown hk hR f.1 (by decide) rfl q2966 q583 q584 q585 kJ10_toString.1 kJ10_toString.2 rfl dX12_written_115) f.2 wJ10_toString iJ10_toString (by decide) (cat_sum _ (Nat.le_of_ble_eq_true rfl)) rfl (fun v h35 H locs f hR hL => ?_) (fun q h9 H locs hp hR hL => x_out hown hlk hR hL (fun x9 h9 => by rw [htb] at h9; exact absurd h9 List.not_mem_nil) ⟨hp.1, hp.2.1⟩ hp.2.2)
        obtain ⟨ra35, rfl, f⟩ := f
        show Wn p l e R s m args below meth c H locs _ (F0 m 118 ls [vr ra35])
        exact w_aret hx hb hr (Or.inl ⟨_, rfl⟩) hlk hR hL dX12_written_118 f
  · have f := f.2 c9
    refine w_aload_n hx hb dX12_written_4 rfl (lv_v hl (k := 0) rfl rfl) ?_
    obtain ⟨f1, f⟩ := f
    refine w_get (i := 22) (k := 0) (v := vr (gR h 880 a0)) hx hb hown hk hR clk_X12 f1 (by decide) (by decide) q2043 (fun _ h9 => h9) rfl dX12_written_5 ?_
    refine w_call (mi := mX10_written) (As := [vR (gR h 880 a0)]) (rest := []) (len := 3) hk hR hL hsz hsB htr hRr (cok_V (i := 16) (C := RX10) (argsL := []) hx hb hown hk hR f.1 (by decide) rfl q2948 q2949 q2950 q2951 kX10_written.1 kX10_written.2 rfl dX12_written_8) f.2 wX10_written iX10_written (by decide) (cat_sum _ (Nat.le_of_ble_eq_true rfl)) rfl (fun v h36 H locs f hR hL => ?_) (fun q h9 H locs hp hR hL => x_out hown hlk hR hL (fun x9 h9 => by rw [htb] at h9; exact absurd h9 List.not_mem_nil) ⟨hp.1, hp.2.1⟩ hp.2.2)
    obtain ⟨ra36, rfl, f⟩ := f
    show Wn p l e R s m args below meth c H locs _ (F0 m 11 ls [vr ra36])
    exact w_aret hx hb hr (Or.inl ⟨_, rfl⟩) hlk hR hL dX12_written_11 f
theorem t_X12_written {G : Wd} {l : Launch} {d : Nat} {post : Option Value → VH → Prop} {xp : Nat → VH → Prop} {i1 : Int32} {a0 : Nat} {h : VH} (hd : 9 ≤ d)
    (f : (i1 = 0 → ((kd h a0 = 23) ∧ (D G l (d - 1) mJ19_bitCount [vI (gI h 881 a0)] h (fun v h1 => ∃ ri1, v = some (.int ri1) ∧ ((¬ ri1 = (jI 1) → ((hz h1 ≤ wC G) ∧ (hs h1 + 4 ≤ wS G) ∧ (∀ h2 : VH, h2 = al h1 6 0 4 → ((hz h1) ≠ 0 ∧ D G l (d - 1) mJ10_init [vR (hz h1)] h2 (fun v h3 => v = none ∧ ((kd h3 (hz h1) = 6) ∧ D G l (d - 1) mJ10_append [vR (hz h1), vR (wA G 21 + 1)] h3 (fun v h4 => ∃ ra4, v = some (vr ra4) ∧ ((kd h4 a0 = 23) ∧ (D G l (d - 1) mJ19_bitCount [vI (gI h4 882 a0)] h4 (fun v h5 => ∃ ri5, v = some (.int ri5) ∧ ((¬ ri5 = (jI 1) → ((kd h5 ra4 = 6) ∧ D G l (d - 1) mJ10_append [vR ra4, vR (wA G 21 + 1)] h5 (fun v h6 => ∃ ra6, v = some (vr ra6) ∧ ((kd h6 ra6 = 6) ∧ D G l (d - 1) mJ10_toString [vR ra6] h6 (fun v h7 => ∃ ra7, v = some (vr ra7) ∧ (post (some (vr ra7)) h7)) xp)) xp)) ∧ (ri5 = (jI 1) → ((hz h5 ≤ wC G) ∧ (hs h5 + 4 ≤ wS G) ∧ (∀ h8 : VH, h8 = al h5 6 0 4 → ((hz h5) ≠ 0 ∧ D G l (d - 1) mJ10_init [vR (hz h5)] h8 (fun v h9 => v = none ∧ ((kd h9 (hz h5) = 6) ∧ D G l (d - 1) mJ10_append [vR (hz h5), vR (wA G 20 + 1)] h9 (fun v h10 => ∃ ra10, v = some (vr ra10) ∧ ((kd h10 a0 = 23) ∧ (D G l (d - 1) mJ19_numberOfTrailingZeros [vI (gI h10 882 a0)] h10 (fun v h11 => ∃ ri11, v = some (.int ri11) ∧ ((kd h11 ra10 = 6) ∧ D G l (d - 1) mJ10_append_2 [vR ra10, vI (ri11 + (jI 1))] h11 (fun v h12 => ∃ ra12, v = some (vr ra12) ∧ ((kd h12 ra12 = 6) ∧ D G l (d - 1) mJ10_toString [vR ra12] h12 (fun v h13 => ∃ ra13, v = some (vr ra13) ∧ ((kd h13 ra4 = 6) ∧ D G l (d - 1) mJ10_append [vR ra4, vR ra13] h13 (fun v h14 => ∃ ra14, v = some (vr ra14) ∧ ((kd h14 ra14 = 6) ∧ D G l (d - 1) mJ10_toString [vR ra14] h14 (fun v h15 => ∃ ra15, v = some (vr ra15) ∧ (post (some (vr ra15)) h15)) xp)) xp)) xp)) xp)) xp))) xp)) xp)))))) xp))) xp)) xp)))) ∧ (ri1 = (jI 1) → ((hz h1 ≤ wC G) ∧ (hs h1 + 4 ≤ wS G) ∧ (∀ h16 : VH, h16 = al h1 6 0 4 → ((hz h1) ≠ 0 ∧ D G l (d - 1) mJ10_init [vR (hz h1)] h16 (fun v h17 => v = none ∧ ((kd h17 (hz h1) = 6) ∧ D G l (d - 1) mJ10_append [vR (hz h1), vR (wA G 20 + 1)] h17 (fun v h18 => ∃ ra18, v = some (vr ra18) ∧ ((kd h18 a0 = 23) ∧ (D G l (d - 1) mJ19_numberOfTrailingZeros [vI (gI h18 881 a0)] h18 (fun v h19 => ∃ ri19, v = some (.int ri19) ∧ ((kd h19 ra18 = 6) ∧ D G l (d - 1) mJ10_append_3 [vR ra18, vI (ji2c ((jI 97) + ri19))] h19 (fun v h20 => ∃ ra20, v = some (vr ra20) ∧ ((kd h20 ra20 = 6) ∧ D G l (d - 1) mJ10_toString [vR ra20] h20 (fun v h21 => ∃ ra21, v = some (vr ra21) ∧ ((hz h21 ≤ wC G) ∧ (hs h21 + 4 ≤ wS G) ∧ (∀ h22 : VH, h22 = al h21 6 0 4 → ((hz h21) ≠ 0 ∧ D G l (d - 1) mJ10_init [vR (hz h21)] h22 (fun v h23 => v = none ∧ ((kd h23 (hz h21) = 6) ∧ D G l (d - 1) mJ10_append [vR (hz h21), vR ra21] h23 (fun v h24 => ∃ ra24, v = some (vr ra24) ∧ ((kd h24 a0 = 23) ∧ (D G l (d - 1) mJ19_bitCount [vI (gI h24 882 a0)] h24 (fun v h25 => ∃ ri25, v = some (.int ri25) ∧ ((¬ ri25 = (jI 1) → ((kd h25 ra24 = 6) ∧ D G l (d - 1) mJ10_append [vR ra24, vR (wA G 21 + 1)] h25 (fun v h26 => ∃ ra26, v = some (vr ra26) ∧ ((kd h26 ra26 = 6) ∧ D G l (d - 1) mJ10_toString [vR ra26] h26 (fun v h27 => ∃ ra27, v = some (vr ra27) ∧ (post (some (vr ra27)) h27)) xp)) xp)) ∧ (ri25 = (jI 1) → ((hz h25 ≤ wC G) ∧ (hs h25 + 4 ≤ wS G) ∧ (∀ h28 : VH, h28 = al h25 6 0 4 → ((hz h25) ≠ 0 ∧ D G l (d - 1) mJ10_init [vR (hz h25)] h28 (fun v h29 => v = none ∧ ((kd h29 (hz h25) = 6) ∧ D G l (d - 1) mJ10_append [vR (hz h25), vR (wA G 20 + 1)] h29 (fun v h30 => ∃ ra30, v = some (vr ra30) ∧ ((kd h30 a0 = 23) ∧ (D G l (d - 1) mJ19_numberOfTrailingZeros [vI (gI h30 882 a0)] h30 (fun v h31 => ∃ ri31, v = some (.int ri31) ∧ ((kd h31 ra30 = 6) ∧ D G l (d - 1) mJ10_append_2 [vR ra30, vI (ri31 + (jI 1))] h31 (fun v h32 => ∃ ra32, v = some (vr ra32) ∧ ((kd h32 ra32 = 6) ∧ D G l (d - 1) mJ10_toString [vR ra32] h32 (fun v h33 => ∃ ra33, v = some (vr ra33) ∧ ((kd h33 ra24 = 6) ∧ D G l (d - 1) mJ10_append [vR ra24, vR ra33] h33 (fun v h34 => ∃ ra34, v = some (vr ra34) ∧ ((kd h34 ra34 = 6) ∧ D G l (d - 1) mJ10_toString [vR ra34] h34 (fun v h35 => ∃ ra35, v = some (vr ra35) ∧ (post (some (vr ra35)) h35)) xp)) xp)) xp)) xp)) xp))) xp)) xp)))))) xp))) xp)) xp)))) xp)) xp)) xp))) xp)) xp)))))) xp))) ∧ (¬ i1 = 0 → ((kd h a0 = 23) ∧ ((kd h (gR h 880 a0) = 17) ∧ D G l (d - 1) mX10_written [vR (gR h 880 a0)] h (fun v h36 => ∃ ra36, v = some (vr ra36) ∧ (post (some (vr ra36)) h36)) xp)))) : D G l d mX12_written [vR a0, vI i1] h post xp := D_in hd rfl rfl fun V XV C => b_X12_written_0 C f
theorem b_X13_init_0 {G : Wd} {l : Launch} {d : Nat} {post : Option Value → VH → Prop} {xp : Nat → VH → Prop} {V : Nat → List (Nat × VT) → List Value → VH → Prop} {XV : Nat → List (Nat × VT) → Nat → VH → Prop} (C : Ctx G l d mX13_init post xp V XV) {i2 i3 : Int32} {a0 a1 : Nat} {h : VH}
    (f : (kd h a0 = 24) ∧ (∀ h1 : VH, h1 = sR h 922 a0 a1 → ((kd h1 a0 = 24) ∧ (∀ h2 : VH, h2 = sI h1 920 a0 i2 → ((kd h2 a0 = 24) ∧ (∀ h3 : VH, h3 = sI h2 921 a0 i3 → (a0 ≠ 0 ∧ D G l d mX4_init [vR a0, vR a1] h3 (fun v h4 => v = none ∧ (post none h4)) xp))))))) : V 0 [(0, vR a0), (1, vR a1), (2, vI i2), (3, vI i3)] [] h := by
  obtain ⟨p, e, R, s, m, args, below, meth, c, Q, ⟨hx, hb, hr, hlk, hml, hown, hk, hRr, htb, hnm, hsB, htr, hQ⟩, hV, hX⟩ := C
  rw [hV]
  intro H locs ls hR hL hl
  have hb : c.code = cX13_init := hb
  have hr : meth.sig.returnType = none := hr
  have hml : c.maxLocals = 4 := hml
  have hown : s.vm.findClass RX13 = some m.cls := hown
  have hl : lv_has ls 4 (lm [(0, vR a0), (1, vR a1), (2, vI i2), (3, vI i3)]) := hl
  have hsz : ls.size = c.maxLocals := hl.1.trans hml.symm
  subst hQ
  refine w_aload_n hx hb dX13_init_0 rfl (lv_v hl (k := 0) rfl rfl) ?_
  refine w_aload_n hx hb dX13_init_1 rfl (lv_v hl (k := 1) rfl rfl) ?_
  obtain ⟨f1, f⟩ := f
  refine w_putF (i := 23) (k := 2) (c1 := cR (h.1 a0) 922 a1) hx hb hown hk hR hL clk_X13 f1 (by decide) (by decide) q2327 (fun _ h9 => h9) rfl hnm rfl (vr_fit rfl _) rfl (pvR clk_X13 (by decide) rfl rfl) dX13_init_2 (fun H locs hR hL => ?_)
  obtain ⟨h1, eh1⟩ : ∃ z : VH, z = sR h 922 a0 a1 := ⟨_, rfl⟩
  have hR : Rp G h1 H := by rw [eh1]; exact hR
  have f := f h1 eh1
  refine w_aload_n hx hb dX13_init_5 rfl (lv_v hl (k := 0) rfl rfl) ?_
  refine lv_iload_n hx hb dX13_init_6 rfl (lv_v hl (k := 2) rfl rfl) ?_
  obtain ⟨f1, f⟩ := f
  refine w_putF (i := 23) (k := 0) (c1 := cI (h1.1 a0) 920 i2) hx hb hown hk hR hL clk_X13 f1 (by decide) (by decide) q2325 (fun _ h9 => h9) rfl hnm rfl ⟨rfl, rfl⟩ rfl (pvI clk_X13 (by decide) rfl rfl) dX13_init_7 (fun H locs hR hL => ?_)
  obtain ⟨h2, eh2⟩ : ∃ z : VH, z = sI h1 920 a0 i2 := ⟨_, rfl⟩
  have hR : Rp G h2 H := by rw [eh2]; exact hR
  have f := f h2 eh2
  refine w_aload_n hx hb dX13_init_10 rfl (lv_v hl (k := 0) rfl rfl) ?_
  refine lv_iload_n hx hb dX13_init_11 rfl (lv_v hl (k := 3) rfl rfl) ?_
  obtain ⟨f1, f⟩ := f
  refine w_putF (i := 23) (k := 1) (c1 := cI (h2.1 a0) 921 i3) hx hb hown hk hR hL clk_X13 f1 (by decide) (by decide) q2326 (fun _ h9 => h9) rfl hnm rfl ⟨rfl, rfl⟩ rfl (pvI clk_X13 (by decide) rfl rfl) dX13_init_12 (fun H locs hR hL => ?_)
  obtain ⟨h3, eh3⟩ : ∃ z : VH, z = sI h2 921 a0 i3 := ⟨_, rfl⟩
  have hR : Rp G h3 H := by rw [eh3]; exact hR
  have f := f h3 eh3
  refine w_aload_n hx hb dX13_init_15 rfl (lv_v hl (k := 0) rfl rfl) ?_
  refine w_aload_n hx hb dX13_init_16 rfl (lv_v hl (k := 1) rfl rfl) ?_
  refine w_call (mi := mX4_init) (As := [vR a0, vR a1]) (rest := []) (len := 3) hk hR hL hsz hsB htr hRr (cok_IN (argsL := [vr a1]) hx hb hown hk f.1 rfl q2324 q815 q816 kX4_init.1 kX4_init.2 rfl dX13_init_17) f.2 wX4_init iX4_init (by decide) (cat_sum _ (Nat.le_of_ble_eq_true rfl)) rfl (fun v h4 H locs f hR hL => ?_) (fun q h9 H locs hp hR hL => x_out hown hlk hR hL (fun x9 h9 => by rw [htb] at h9; exact absurd h9 List.not_mem_nil) ⟨hp.1, hp.2.1⟩ hp.2.2)
  obtain ⟨rfl, f⟩ := f
  show Wn p l e R s m args below meth c H locs _ (F0 m 20 ls [])
  exact w_vret hx hb hr hlk hR hL dX13_init_20 f
theorem t_X13_init {G : Wd} {l : Launch} {d : Nat} {post : Option Value → VH → Prop} {xp : Nat → VH → Prop} {i2 i3 : Int32} {a0 a1 : Nat} {h : VH} (hd : 9 ≤ d)
    (f : (kd h a0 = 24) ∧ (∀ h1 : VH, h1 = sR h 922 a0 a1 → ((kd h1 a0 = 24) ∧ (∀ h2 : VH, h2 = sI h1 920 a0 i2 → ((kd h2 a0 = 24) ∧ (∀ h3 : VH, h3 = sI h2 921 a0 i3 → (a0 ≠ 0 ∧ D G l (d - 1) mX4_init [vR a0, vR a1] h3 (fun v h4 => v = none ∧ (post none h4)) xp))))))) : D G l d mX13_init [vR a0, vR a1, vI i2, vI i3] h post xp := D_in hd rfl rfl fun V XV C => b_X13_init_0 C f
theorem b_X13_kind_0 {G : Wd} {l : Launch} {d : Nat} {post : Option Value → VH → Prop} {xp : Nat → VH → Prop} {V : Nat → List (Nat × VT) → List Value → VH → Prop} {XV : Nat → List (Nat × VT) → Nat → VH → Prop} (C : Ctx G l d mX13_kind post xp V XV) {a0 : Nat} {h : VH}
    (f : (kd h a0 = 24) ∧ (post (some (.int (gI h 920 a0))) h)) : V 0 [(0, vR a0)] [] h := by
  obtain ⟨p, e, R, s, m, args, below, meth, c, Q, ⟨hx, hb, hr, hlk, hml, hown, hk, hRr, htb, hnm, hsB, htr, hQ⟩, hV, hX⟩ := C
  rw [hV]
  intro H locs ls hR hL hl
  have hb : c.code = cX13_kind := hb
  have hr : meth.sig.returnType = some .int := hr
  have hml : c.maxLocals = 1 := hml
  have hown : s.vm.findClass RX13 = some m.cls := hown
  have hl : lv_has ls 1 (lm [(0, vR a0)]) := hl
  have hsz : ls.size = c.maxLocals := hl.1.trans hml.symm
  subst hQ
  refine w_aload_n hx hb dX13_kind_0 rfl (lv_v hl (k := 0) rfl rfl) ?_
  obtain ⟨f1, f⟩ := f
  refine w_get (i := 23) (k := 0) (v := .int (gI h 920 a0)) hx hb hown hk hR clk_X13 f1 (by decide) (by decide) q2325 (fun _ h9 => h9) rfl dX13_kind_1 ?_
  exact w_iret hx hb hr hlk hR hL dX13_kind_4 f
theorem t_X13_kind {G : Wd} {l : Launch} {d : Nat} {post : Option Value → VH → Prop} {xp : Nat → VH → Prop} {a0 : Nat} {h : VH} (hd : 9 ≤ d)
    (f : (kd h a0 = 24) ∧ (post (some (.int (gI h 920 a0))) h)) : D G l d mX13_kind [vR a0] h post xp := D_in hd rfl rfl fun V XV C => b_X13_kind_0 C f
theorem b_X13_part_0 {G : Wd} {l : Launch} {d : Nat} {post : Option Value → VH → Prop} {xp : Nat → VH → Prop} {V : Nat → List (Nat × VT) → List Value → VH → Prop} {XV : Nat → List (Nat × VT) → Nat → VH → Prop} (C : Ctx G l d mX13_part post xp V XV) {i1 : Int32} {a0 : Nat} {h : VH}
    (f : (¬ i1 = (jI 1) → (post (some (.int (jI (-1)))) h)) ∧ (i1 = (jI 1) → ((kd h a0 = 24) ∧ (post (some (.int (gI h 921 a0))) h)))) : V 0 [(0, vR a0), (1, vI i1)] [] h := by
  obtain ⟨p, e, R, s, m, args, below, meth, c, Q, ⟨hx, hb, hr, hlk, hml, hown, hk, hRr, htb, hnm, hsB, htr, hQ⟩, hV, hX⟩ := C
  rw [hV]
  intro H locs ls hR hL hl
  have hb : c.code = cX13_part := hb
  have hr : meth.sig.returnType = some .int := hr
  have hml : c.maxLocals = 2 := hml
  have hown : s.vm.findClass RX13 = some m.cls := hown
  have hl : lv_has ls 2 (lm [(0, vR a0), (1, vI i1)]) := hl
  have hsz : ls.size = c.maxLocals := hl.1.trans hml.symm
  subst hQ
  refine lv_iload_n hx hb dX13_part_0 rfl (lv_v hl (k := 1) rfl rfl) ?_
  refine w_iconst hx hb dX13_part_1 ?_
  refine lv_icmp_ne (tgt := 12) hx hb dX13_part_2 (by decide) (fun c9 => ?_) (fun c9 => ?_)
  · have f := f.1 c9
    refine w_iconst hx hb dX13_part_12 ?_
    exact w_iret hx hb hr hlk hR hL dX13_part_13 f
  · have f := f.2 c9
    refine w_aload_n hx hb dX13_part_5 rfl (lv_v hl (k := 0) rfl rfl) ?_
    obtain ⟨f1, f⟩ := f
    refine w_get (i := 23) (k := 1) (v := .int (gI h 921 a0)) hx hb hown hk hR clk_X13 f1 (by decide) (by decide) q2326 (fun _ h9 => h9) rfl dX13_part_6 ?_
    refine lv_goto (tgt := 13) hx hb dX13_part_9 (by decide) ?_
    exact w_iret hx hb hr hlk hR hL dX13_part_13 f
theorem t_X13_part {G : Wd} {l : Launch} {d : Nat} {post : Option Value → VH → Prop} {xp : Nat → VH → Prop} {i1 : Int32} {a0 : Nat} {h : VH} (hd : 9 ≤ d)
    (f : (¬ i1 = (jI 1) → (post (some (.int (jI (-1)))) h)) ∧ (i1 = (jI 1) → ((kd h a0 = 24) ∧ (post (some (.int (gI h 921 a0))) h)))) : D G l d mX13_part [vR a0, vI i1] h post xp := D_in hd rfl rfl fun V XV C => b_X13_part_0 C f
theorem b_X13_run_0 {G : Wd} {l : Launch} {d : Nat} {post : Option Value → VH → Prop} {xp : Nat → VH → Prop} {V : Nat → List (Nat × VT) → List Value → VH → Prop} {XV : Nat → List (Nat × VT) → Nat → VH → Prop} (C : Ctx G l d mX13_run post xp V XV) {a0 : Nat} {h : VH}
    (f : (kd h a0 = 24) ∧ ((¬ (gI h 920 a0) = 0 → ((kd h a0 = 24) ∧ ((kd h (gR h 922 a0) = 1) ∧ ((kd h a0 = 24) ∧ ((kd h (gR h 0 (gR h 922 a0)) = 2) ∧ D G l d mX2_discard [vR (gR h 0 (gR h 922 a0)), vI (gI h 921 a0)] h (fun v h1 => v = none ∧ (post none h1)) xp))))) ∧ ((gI h 920 a0) = 0 → ((kd h a0 = 24) ∧ ((kd h (gR h 922 a0) = 1) ∧ ((kd h a0 = 24) ∧ ((kd h (gR h 0 (gR h 922 a0)) = 2) ∧ D G l d mX2_play [vR (gR h 0 (gR h 922 a0)), vI (gI h 921 a0)] h (fun v h2 => v = none ∧ (post none h2)) xp))))))) : V 0 [(0, vR a0)] [] h := by
  obtain ⟨p, e, R, s, m, args, below, meth, c, Q, ⟨hx, hb, hr, hlk, hml, hown, hk, hRr, htb, hnm, hsB, htr, hQ⟩, hV, hX⟩ := C
  rw [hV]
  intro H locs ls hR hL hl
  have hb : c.code = cX13_run := hb
  have hr : meth.sig.returnType = none := hr
  have hml : c.maxLocals = 1 := hml
  have hown : s.vm.findClass RX13 = some m.cls := hown
  have hl : lv_has ls 1 (lm [(0, vR a0)]) := hl
  have hsz : ls.size = c.maxLocals := hl.1.trans hml.symm
  subst hQ
  refine w_aload_n hx hb dX13_run_0 rfl (lv_v hl (k := 0) rfl rfl) ?_
  obtain ⟨f1, f⟩ := f
  refine w_get (i := 23) (k := 0) (v := .int (gI h 920 a0)) hx hb hown hk hR clk_X13 f1 (by decide) (by decide) q2325 (fun _ h9 => h9) rfl dX13_run_1 ?_
  refine lv_if_ne (tgt := 24) hx hb dX13_run_4 (by decide) (fun c9 => ?_) (fun c9 => ?_)
  · have f := f.1 c9
    refine w_aload_n hx hb dX13_run_24 rfl (lv_v hl (k := 0) rfl rfl) ?_
    obtain ⟨f1, f⟩ := f
    refine w_get (i := 23) (k := 2) (v := vr (gR h 922 a0)) hx hb hown hk hR clk_X13 f1 (by decide) (by decide) q2327 (fun _ h9 => h9) rfl dX13_run_25 ?_
    obtain ⟨f1, f⟩ := f
    refine w_getN (i := 0) (k := 0) (v := vr (gR h 0 (gR h 922 a0))) hx hb hown hk hR clk_X1 f1 (by decide) (by decide) q861 (fun _ h9 => h9) rfl dX13_run_28 ?_
    refine w_aload_n hx hb dX13_run_31 rfl (lv_v hl (k := 0) rfl rfl) ?_
    obtain ⟨f1, f⟩ := f
    refine w_get (i := 23) (k := 1) (v := .int (gI h 921 a0)) hx hb hown hk hR clk_X13 f1 (by decide) (by decide) q2326 (fun _ h9 => h9) rfl dX13_run_32 ?_
    refine w_call (mi := mX2_discard) (As := [vR (gR h 0 (gR h 922 a0)), vI (gI h 921 a0)]) (rest := []) (len := 3) hk hR hL hsz hsB htr hRr (cok_V (i := 1) (C := RX2) (argsL := [.int (gI h 921 a0)]) hx hb hown hk hR f.1 (by decide) rfl q2416 q2417 q2418 q2419 kX2_discard.1 kX2_discard.2 rfl dX13_run_35) f.2 wX2_discard iX2_discard (by decide) (cat_sum _ (Nat.le_of_ble_eq_true rfl)) rfl (fun v h1 H locs f hR hL => ?_) (fun q h9 H locs hp hR hL => x_out hown hlk hR hL (fun x9 h9 => by rw [htb] at h9; exact absurd h9 List.not_mem_nil) ⟨hp.1, hp.2.1⟩ hp.2.2)
    obtain ⟨rfl, f⟩ := f
    show Wn p l e R s m args below meth c H locs _ (F0 m 38 ls [])
    exact w_vret hx hb hr hlk hR hL dX13_run_38 f
  · have f := f.2 c9
    refine w_aload_n hx hb dX13_run_7 rfl (lv_v hl (k := 0) rfl rfl) ?_
    obtain ⟨f1, f⟩ := f
    refine w_get (i := 23) (k := 2) (v := vr (gR h 922 a0)) hx hb hown hk hR clk_X13 f1 (by decide) (by decide) q2327 (fun _ h9 => h9) rfl dX13_run_8 ?_
    obtain ⟨f1, f⟩ := f
    refine w_getN (i := 0) (k := 0) (v := vr (gR h 0 (gR h 922 a0))) hx hb hown hk hR clk_X1 f1 (by decide) (by decide) q861 (fun _ h9 => h9) rfl dX13_run_11 ?_
    refine w_aload_n hx hb dX13_run_14 rfl (lv_v hl (k := 0) rfl rfl) ?_
    obtain ⟨f1, f⟩ := f
    refine w_get (i := 23) (k := 1) (v := .int (gI h 921 a0)) hx hb hown hk hR clk_X13 f1 (by decide) (by decide) q2326 (fun _ h9 => h9) rfl dX13_run_15 ?_
    refine w_call (mi := mX2_play) (As := [vR (gR h 0 (gR h 922 a0)), vI (gI h 921 a0)]) (rest := []) (len := 3) hk hR hL hsz hsB htr hRr (cok_V (i := 1) (C := RX2) (argsL := [.int (gI h 921 a0)]) hx hb hown hk hR f.1 (by decide) rfl q2388 q2389 q2390 q2391 kX2_play.1 kX2_play.2 rfl dX13_run_18) f.2 wX2_play iX2_play (by decide) (cat_sum _ (Nat.le_of_ble_eq_true rfl)) rfl (fun v h2 H locs f hR hL => ?_) (fun q h9 H locs hp hR hL => x_out hown hlk hR hL (fun x9 h9 => by rw [htb] at h9; exact absurd h9 List.not_mem_nil) ⟨hp.1, hp.2.1⟩ hp.2.2)
    obtain ⟨rfl, f⟩ := f
    show Wn p l e R s m args below meth c H locs _ (F0 m 21 ls [])
    refine lv_goto (tgt := 38) hx hb dX13_run_21 (by decide) ?_
    exact w_vret hx hb hr hlk hR hL dX13_run_38 f
theorem t_X13_run {G : Wd} {l : Launch} {d : Nat} {post : Option Value → VH → Prop} {xp : Nat → VH → Prop} {a0 : Nat} {h : VH} (hd : 9 ≤ d)
    (f : (kd h a0 = 24) ∧ ((¬ (gI h 920 a0) = 0 → ((kd h a0 = 24) ∧ ((kd h (gR h 922 a0) = 1) ∧ ((kd h a0 = 24) ∧ ((kd h (gR h 0 (gR h 922 a0)) = 2) ∧ D G l (d - 1) mX2_discard [vR (gR h 0 (gR h 922 a0)), vI (gI h 921 a0)] h (fun v h1 => v = none ∧ (post none h1)) xp))))) ∧ ((gI h 920 a0) = 0 → ((kd h a0 = 24) ∧ ((kd h (gR h 922 a0) = 1) ∧ ((kd h a0 = 24) ∧ ((kd h (gR h 0 (gR h 922 a0)) = 2) ∧ D G l (d - 1) mX2_play [vR (gR h 0 (gR h 922 a0)), vI (gI h 921 a0)] h (fun v h2 => v = none ∧ (post none h2)) xp))))))) : D G l d mX13_run [vR a0] h post xp := D_in hd rfl rfl fun V XV C => b_X13_run_0 C f
theorem b_X14_hasNext_0 {G : Wd} {l : Launch} {d : Nat} {post : Option Value → VH → Prop} {xp : Nat → VH → Prop} {V : Nat → List (Nat × VT) → List Value → VH → Prop} {XV : Nat → List (Nat × VT) → Nat → VH → Prop} (C : Ctx G l d mX14_hasNext post xp V XV) {a0 : Nat} {h : VH}
    (f : (kd h a0 = 25) ∧ ((kd h a0 = 25) ∧ ((kd h (gR h 963 a0) = 1) ∧ ((kd h (gR h 0 (gR h 963 a0)) = 2) ∧ ((kd h (gR h 40 (gR h 0 (gR h 963 a0))) = 3) ∧ (((gI h 82 (gR h 40 (gR h 0 (gR h 963 a0)))) ≤ (gI h 960 a0) → (post (some (.int (jI 0))) h)) ∧ (¬ (gI h 82 (gR h 40 (gR h 0 (gR h 963 a0)))) ≤ (gI h 960 a0) → (post (some (.int (jI 1))) h)))))))) : V 0 [(0, vR a0)] [] h := by
  obtain ⟨p, e, R, s, m, args, below, meth, c, Q, ⟨hx, hb, hr, hlk, hml, hown, hk, hRr, htb, hnm, hsB, htr, hQ⟩, hV, hX⟩ := C
  rw [hV]
  intro H locs ls hR hL hl
  have hb : c.code = cX14_hasNext := hb
  have hr : meth.sig.returnType = some .boolean := hr
  have hml : c.maxLocals = 1 := hml
  have hown : s.vm.findClass RX14 = some m.cls := hown
  have hl : lv_has ls 1 (lm [(0, vR a0)]) := hl
  have hsz : ls.size = c.maxLocals := hl.1.trans hml.symm
  subst hQ
  refine w_aload_n hx hb dX14_hasNext_0 rfl (lv_v hl (k := 0) rfl rfl) ?_
  obtain ⟨f1, f⟩ := f
  refine w_get (i := 24) (k := 0) (v := .int (gI h 960 a0)) hx hb hown hk hR clk_X14 f1 (by decide) (by decide) q2345 (fun _ h9 => h9) rfl dX14_hasNext_1 ?_
  refine w_aload_n hx hb dX14_hasNext_4 rfl (lv_v hl (k := 0) rfl rfl) ?_
  obtain ⟨f1, f⟩ := f
  refine w_get (i := 24) (k := 3) (v := vr (gR h 963 a0)) hx hb hown hk hR clk_X14 f1 (by decide) (by decide) q2348 (fun _ h9 => h9) rfl dX14_hasNext_5 ?_
  obtain ⟨f1, f⟩ := f
  refine w_getN (i := 0) (k := 0) (v := vr (gR h 0 (gR h 963 a0))) hx hb hown hk hR clk_X1 f1 (by decide) (by decide) q858 (fun _ h9 => h9) rfl dX14_hasNext_8 ?_
  obtain ⟨f1, f⟩ := f
  refine w_getN (i := 1) (k := 0) (v := vr (gR h 40 (gR h 0 (gR h 963 a0)))) hx hb hown hk hR clk_X2 f1 (by decide) (by decide) q705 (fun _ h9 => h9) rfl dX14_hasNext_11 ?_
  obtain ⟨f1, f⟩ := f
  refine w_getN (i := 2) (k := 2) (v := .int (gI h 82 (gR h 40 (gR h 0 (gR h 963 a0))))) hx hb hown hk hR clk_X3 f1 (by decide) (by decide) q299 (fun _ h9 => h9) rfl dX14_hasNext_14 ?_
  refine lv_icmp_ge (tgt := 24) hx hb dX14_hasNext_17 (by decide) (fun c9 => ?_) (fun c9 => ?_)
  · have f := f.1 c9
    refine w_iconst hx hb dX14_hasNext_24 ?_
    exact w_zret hx hb hr hlk hR hL dX14_hasNext_25 rfl f
  · have f := f.2 c9
    refine w_iconst hx hb dX14_hasNext_20 ?_
    refine lv_goto (tgt := 25) hx hb dX14_hasNext_21 (by decide) ?_
    exact w_zret hx hb hr hlk hR hL dX14_hasNext_25 rfl f
theorem t_X14_hasNext {G : Wd} {l : Launch} {d : Nat} {post : Option Value → VH → Prop} {xp : Nat → VH → Prop} {a0 : Nat} {h : VH} (hd : 9 ≤ d)
    (f : (kd h a0 = 25) ∧ ((kd h a0 = 25) ∧ ((kd h (gR h 963 a0) = 1) ∧ ((kd h (gR h 0 (gR h 963 a0)) = 2) ∧ ((kd h (gR h 40 (gR h 0 (gR h 963 a0))) = 3) ∧ (((gI h 82 (gR h 40 (gR h 0 (gR h 963 a0)))) ≤ (gI h 960 a0) → (post (some (.int (jI 0))) h)) ∧ (¬ (gI h 82 (gR h 40 (gR h 0 (gR h 963 a0)))) ≤ (gI h 960 a0) → (post (some (.int (jI 1))) h)))))))) : D G l d mX14_hasNext [vR a0] h post xp := D_in hd rfl rfl fun V XV C => b_X14_hasNext_0 C f
theorem b_X14_init_0 {G : Wd} {l : Launch} {d : Nat} {post : Option Value → VH → Prop} {xp : Nat → VH → Prop} {V : Nat → List (Nat × VT) → List Value → VH → Prop} {XV : Nat → List (Nat × VT) → Nat → VH → Prop} (C : Ctx G l d mX14_init post xp V XV) {a0 a1 : Nat} {h : VH}
    (f : (kd h a0 = 25) ∧ (∀ h1 : VH, h1 = sR h 963 a0 a1 → (a0 ≠ 0 ∧ ((kd h1 a0 = 25) ∧ (∀ h2 : VH, h2 = sI h1 960 a0 (jI 1) → ((kd h2 a0 = 25) ∧ (∀ h3 : VH, h3 = sI h2 961 a0 (jI 0) → ((kd h3 a0 = 25) ∧ (∀ h4 : VH, h4 = sI h3 962 a0 (jI (-1)) → ((kd h4 a0 = 25) ∧ D G l d mX14_steps [vR a0] h4 (fun v h5 => v = none ∧ (post none h5)) xp)))))))))) : V 0 [(0, vR a0), (1, vR a1)] [] h := by
  obtain ⟨p, e, R, s, m, args, below, meth, c, Q, ⟨hx, hb, hr, hlk, hml, hown, hk, hRr, htb, hnm, hsB, htr, hQ⟩, hV, hX⟩ := C
  rw [hV]
  intro H locs ls hR hL hl
  have hb : c.code = cX14_init := hb
  have hr : meth.sig.returnType = none := hr
  have hml : c.maxLocals = 2 := hml
  have hown : s.vm.findClass RX14 = some m.cls := hown
  have hl : lv_has ls 2 (lm [(0, vR a0), (1, vR a1)]) := hl
  have hsz : ls.size = c.maxLocals := hl.1.trans hml.symm
  subst hQ
  refine w_aload_n hx hb dX14_init_0 rfl (lv_v hl (k := 0) rfl rfl) ?_
  refine w_aload_n hx hb dX14_init_1 rfl (lv_v hl (k := 1) rfl rfl) ?_
  obtain ⟨f1, f⟩ := f
  refine w_putF (i := 24) (k := 3) (c1 := cR (h.1 a0) 963 a1) hx hb hown hk hR hL clk_X14 f1 (by decide) (by decide) q2348 (fun _ h9 => h9) rfl hnm rfl (vr_fit rfl _) rfl (pvR clk_X14 (by decide) rfl rfl) dX14_init_2 (fun H locs hR hL => ?_)
  obtain ⟨h1, eh1⟩ : ∃ z : VH, z = sR h 963 a0 a1 := ⟨_, rfl⟩
  have hR : Rp G h1 H := by rw [eh1]; exact hR
  have f := f h1 eh1
  refine w_aload_n hx hb dX14_init_5 rfl (lv_v hl (k := 0) rfl rfl) ?_
  obtain ⟨f1, f⟩ := f
  refine w_oinit hx hb hown hk f1 hRr q2344 q211 q212 hsz dX14_init_6 (Nat.le_of_ble_eq_true rfl) ?_
  refine w_aload_n hx hb dX14_init_9 rfl (lv_v hl (k := 0) rfl rfl) ?_
  refine w_iconst hx hb dX14_init_10 ?_
  obtain ⟨f1, f⟩ := f
  refine w_put (i := 24) (k := 0) (c1 := cI (h1.1 a0) 960 (jI 1)) hx hb hown hk hR hL clk_X14 f1 (by decide) (by decide) q2345 (fun _ h9 => h9) rfl ⟨rfl, rfl⟩ rfl (pvI clk_X14 (by decide) rfl rfl) dX14_init_11 (fun H locs hR hL => ?_)
  obtain ⟨h2, eh2⟩ : ∃ z : VH, z = sI h1 960 a0 (jI 1) := ⟨_, rfl⟩
  have hR : Rp G h2 H := by rw [eh2]; exact hR
  have f := f h2 eh2
  refine w_aload_n hx hb dX14_init_14 rfl (lv_v hl (k := 0) rfl rfl) ?_
  refine w_iconst hx hb dX14_init_15 ?_
  obtain ⟨f1, f⟩ := f
  refine w_put (i := 24) (k := 1) (c1 := cI (h2.1 a0) 961 (jI 0)) hx hb hown hk hR hL clk_X14 f1 (by decide) (by decide) q2346 (fun _ h9 => h9) rfl ⟨rfl, rfl⟩ rfl (pvI clk_X14 (by decide) rfl rfl) dX14_init_16 (fun H locs hR hL => ?_)
  obtain ⟨h3, eh3⟩ : ∃ z : VH, z = sI h2 961 a0 (jI 0) := ⟨_, rfl⟩
  have hR : Rp G h3 H := by rw [eh3]; exact hR
  have f := f h3 eh3
  refine w_aload_n hx hb dX14_init_19 rfl (lv_v hl (k := 0) rfl rfl) ?_
  refine w_iconst hx hb dX14_init_20 ?_
  obtain ⟨f1, f⟩ := f
  refine w_put (i := 24) (k := 2) (c1 := cI (h3.1 a0) 962 (jI (-1))) hx hb hown hk hR hL clk_X14 f1 (by decide) (by decide) q2347 (fun _ h9 => h9) rfl ⟨rfl, rfl⟩ rfl (pvI clk_X14 (by decide) rfl rfl) dX14_init_21 (fun H locs hR hL => ?_)
  obtain ⟨h4, eh4⟩ : ∃ z : VH, z = sI h3 962 a0 (jI (-1)) := ⟨_, rfl⟩
  have hR : Rp G h4 H := by rw [eh4]; exact hR
  have f := f h4 eh4
  refine w_aload_n hx hb dX14_init_24 rfl (lv_v hl (k := 0) rfl rfl) ?_
  refine w_call (mi := mX14_steps) (As := [vR a0]) (rest := []) (len := 3) hk hR hL hsz hsB htr hRr (cok_V (i := 24) (C := RX14) (argsL := []) hx hb hown hk hR f.1 (by decide) rfl q1590 q1592 qs28 q1593 kX14_steps.1 kX14_steps.2 rfl dX14_init_25) f.2 wX14_steps iX14_steps (by decide) (cat_sum _ (Nat.le_of_ble_eq_true rfl)) rfl (fun v h5 H locs f hR hL => ?_) (fun q h9 H locs hp hR hL => x_out hown hlk hR hL (fun x9 h9 => by rw [htb] at h9; exact absurd h9 List.not_mem_nil) ⟨hp.1, hp.2.1⟩ hp.2.2)
  obtain ⟨rfl, f⟩ := f
  show Wn p l e R s m args below meth c H locs _ (F0 m 28 ls [])
  exact w_vret hx hb hr hlk hR hL dX14_init_28 f
theorem t_X14_init {G : Wd} {l : Launch} {d : Nat} {post : Option Value → VH → Prop} {xp : Nat → VH → Prop} {a0 a1 : Nat} {h : VH} (hd : 9 ≤ d)
    (f : (kd h a0 = 25) ∧ (∀ h1 : VH, h1 = sR h 963 a0 a1 → (a0 ≠ 0 ∧ ((kd h1 a0 = 25) ∧ (∀ h2 : VH, h2 = sI h1 960 a0 (jI 1) → ((kd h2 a0 = 25) ∧ (∀ h3 : VH, h3 = sI h2 961 a0 (jI 0) → ((kd h3 a0 = 25) ∧ (∀ h4 : VH, h4 = sI h3 962 a0 (jI (-1)) → ((kd h4 a0 = 25) ∧ D G l (d - 1) mX14_steps [vR a0] h4 (fun v h5 => v = none ∧ (post none h5)) xp)))))))))) : D G l d mX14_init [vR a0, vR a1] h post xp := D_in hd rfl rfl fun V XV C => b_X14_init_0 C f
theorem b_X14_next_0 {G : Wd} {l : Launch} {d : Nat} {post : Option Value → VH → Prop} {xp : Nat → VH → Prop} {V : Nat → List (Nat × VT) → List Value → VH → Prop} {XV : Nat → List (Nat × VT) → Nat → VH → Prop} (C : Ctx G l d mX14_next post xp V XV) {a0 : Nat} {h : VH}
    (f : (kd h a0 = 25) ∧ D G l d mX14_next_2 [vR a0] h (fun v h1 => ∃ ra1, v = some (vr ra1) ∧ (post (some (vr ra1)) h1)) xp) : V 0 [(0, vR a0)] [] h := by
  obtain ⟨p, e, R, s, m, args, below, meth, c, Q, ⟨hx, hb, hr, hlk, hml, hown, hk, hRr, htb, hnm, hsB, htr, hQ⟩, hV, hX⟩ := C
  rw [hV]
  intro H locs ls hR hL hl
  have hb : c.code = cX14_next := hb
  have hr : meth.sig.returnType = some (.object "java/lang/Object") := hr
  have hml : c.maxLocals = 1 := hml
  have hown : s.vm.findClass RX14 = some m.cls := hown
  have hl : lv_has ls 1 (lm [(0, vR a0)]) := hl
  have hsz : ls.size = c.maxLocals := hl.1.trans hml.symm
  subst hQ
  refine w_aload_n hx hb dX14_next_0 rfl (lv_v hl (k := 0) rfl rfl) ?_
  refine w_call (mi := mX14_next_2) (As := [vR a0]) (rest := []) (len := 3) hk hR hL hsz hsB htr hRr (cok_V (i := 24) (C := RX14) (argsL := []) hx hb hown hk hR f.1 (by decide) rfl q1536 q1537 q1538 q1539 kX14_next_2.1 kX14_next_2.2 rfl dX14_next_1) f.2 wX14_next_2 iX14_next_2 (by decide) (cat_sum _ (Nat.le_of_ble_eq_true rfl)) rfl (fun v h1 H locs f hR hL => ?_) (fun q h9 H locs hp hR hL => x_out hown hlk hR hL (fun x9 h9 => by rw [htb] at h9; exact absurd h9 List.not_mem_nil) ⟨hp.1, hp.2.1⟩ hp.2.2)
  obtain ⟨ra1, rfl, f⟩ := f
  show Wn p l e R s m args below meth c H locs _ (F0 m 4 ls [vr ra1])
  exact w_aret hx hb hr (Or.inl ⟨_, rfl⟩) hlk hR hL dX14_next_4 f
theorem t_X14_next {G : Wd} {l : Launch} {d : Nat} {post : Option Value → VH → Prop} {xp : Nat → VH → Prop} {a0 : Nat} {h : VH} (hd : 9 ≤ d)
    (f : (kd h a0 = 25) ∧ D G l (d - 1) mX14_next_2 [vR a0] h (fun v h1 => ∃ ra1, v = some (vr ra1) ∧ (post (some (vr ra1)) h1)) xp) : D G l d mX14_next [vR a0] h post xp := D_in hd rfl rfl fun V XV C => b_X14_next_0 C f
theorem b_X14_next_2_0 {G : Wd} {l : Launch} {d : Nat} {post : Option Value → VH → Prop} {xp : Nat → VH → Prop} {V : Nat → List (Nat × VT) → List Value → VH → Prop} {XV : Nat → List (Nat × VT) → Nat → VH → Prop} (C : Ctx G l d mX14_next_2 post xp V XV) {a0 : Nat} {h : VH}
    (f : (kd h a0 = 25) ∧ D G l d mX14_hasNext [vR a0] h (fun v h1 => ∃ ri1, v = some (.int ri1) ∧ ((¬ ri1 = 0 → ((hz h1 ≤ wC G) ∧ (hs h1 + 5 ≤ wS G) ∧ (∀ h2 : VH, h2 = al h1 21 0 5 → ((kd h2 a0 = 25) ∧ ((kd h2 a0 = 25) ∧ D G l d mX14_player [vR a0] h2 (fun v h3 => ∃ ri3, v = some (.int ri3) ∧ ((kd h3 a0 = 25) ∧ ((kd h3 a0 = 25) ∧ ((hz h1) ≠ 0 ∧ D G l d mX11_init [vR (hz h1), vR (gR h2 963 a0), vI ri3, vI (gI h3 961 a0), vI (gI h3 962 a0)] h3 (fun v h4 => v = none ∧ ((kd h4 a0 = 25) ∧ D G l d mX14_steps [vR a0] h4 (fun v h5 => v = none ∧ (post (some (vr (hz h1))) h5)) xp)) xp)))) xp))))) ∧ (ri1 = 0 → (False)))) xp) : V 0 [(0, vR a0)] [] h := by
  obtain ⟨p, e, R, s, m, args, below, meth, c, Q, ⟨hx, hb, hr, hlk, hml, hown, hk, hRr, htb, hnm, hsB, htr, hQ⟩, hV, hX⟩ := C
  rw [hV]
  intro H locs ls hR hL hl
  have hb : c.code = cX14_next_2 := hb
  have hr : meth.sig.returnType = some (.object "HintTeam$Hint") := hr
  have hml : c.maxLocals = 2 := hml
  have hown : s.vm.findClass RX14 = some m.cls := hown
  have hl : lv_has ls 2 (lm [(0, vR a0)]) := hl
  have hsz : ls.size = c.maxLocals := hl.1.trans hml.symm
  subst hQ
  refine w_aload_n hx hb dX14_next_2_0 rfl (lv_v hl (k := 0) rfl rfl) ?_
  refine w_call (mi := mX14_hasNext) (As := [vR a0]) (rest := []) (len := 3) hk hR hL hsz hsB htr hRr (cok_V (i := 24) (C := RX14) (argsL := []) hx hb hown hk hR f.1 (by decide) rfl q1540 q1498 q3607 q1500 kX14_hasNext.1 kX14_hasNext.2 rfl dX14_next_2_1) f.2 wX14_hasNext iX14_hasNext (by decide) (cat_sum _ (Nat.le_of_ble_eq_true rfl)) rfl (fun v h1 H locs f hR hL => ?_) (fun q h9 H locs hp hR hL => x_out hown hlk hR hL (fun x9 h9 => by rw [htb] at h9; exact absurd h9 List.not_mem_nil) ⟨hp.1, hp.2.1⟩ hp.2.2)
  obtain ⟨ri1, rfl, f⟩ := f
  show Wn p l e R s m args below meth c H locs _ (F0 m 4 ls [.int ri1])
  refine lv_if_ne (tgt := 15) hx hb dX14_next_2_4 (by decide) (fun c9 => ?_) (fun c9 => ?_)
  · have f := f.1 c9
    obtain ⟨f1, f2, f⟩ := f
    refine w_new hx hb hown hk hR hL hRr.2.2.1 hRr.2.2.2.1 hsB clk_X11 q1562 q1563 q194 f1 f2 (fun k hk => by match k, hk with | 0, _ => rfl | 1, _ => rfl | 2, _ => rfl | 3, _ => rfl | k + 4, hk => exact absurd hk (by omega)) (by decide) (by decide) dX14_next_2_15 (fun H hR => ?_)
    obtain ⟨h2, eh2⟩ : ∃ z : VH, z = al h1 21 0 5 := ⟨_, rfl⟩
    have hR : Rp G h2 H := by rw [eh2]; exact hR
    have f := f h2 eh2
    refine lv_dup hx hb dX14_next_2_18 (vr_cat _) ?_
    refine w_aload_n hx hb dX14_next_2_19 rfl (lv_v hl (k := 0) rfl rfl) ?_
    obtain ⟨f1, f⟩ := f
    refine w_get (i := 24) (k := 3) (v := vr (gR h2 963 a0)) hx hb hown hk hR clk_X14 f1 (by decide) (by decide) q2348 (fun _ h9 => h9) rfl dX14_next_2_20 ?_
    refine w_aload_n hx hb dX14_next_2_23 rfl (lv_v hl (k := 0) rfl rfl) ?_
    refine w_call (mi := mX14_player) (As := [vR a0]) (rest := [vr (gR h2 963 a0), vr (hz h1), vr (hz h1)]) (len := 3) hk hR hL hsz hsB htr hRr (cok_V (i := 24) (C := RX14) (argsL := []) hx hb hown hk hR f.1 (by decide) rfl q1564 q1566 qs27 q1568 kX14_player.1 kX14_player.2 rfl dX14_next_2_24) f.2 wX14_player iX14_player (by decide) (cat_sum _ (Nat.le_of_ble_eq_true rfl)) rfl (fun v h3 H locs f hR hL => ?_) (fun q h9 H locs hp hR hL => x_out hown hlk hR hL (fun x9 h9 => by rw [htb] at h9; exact absurd h9 List.not_mem_nil) ⟨hp.1, hp.2.1⟩ hp.2.2)
    obtain ⟨ri3, rfl, f⟩ := f
    show Wn p l e R s m args below meth c H locs _ (F0 m 27 ls [.int ri3, vr (gR h2 963 a0), vr (hz h1), vr (hz h1)])
    refine w_aload_n hx hb dX14_next_2_27 rfl (lv_v hl (k := 0) rfl rfl) ?_
    obtain ⟨f1, f⟩ := f
    refine w_get (i := 24) (k := 1) (v := .int (gI h3 961 a0)) hx hb hown hk hR clk_X14 f1 (by decide) (by decide) q2346 (fun _ h9 => h9) rfl dX14_next_2_28 ?_
    refine w_aload_n hx hb dX14_next_2_31 rfl (lv_v hl (k := 0) rfl rfl) ?_
    obtain ⟨f1, f⟩ := f
    refine w_get (i := 24) (k := 2) (v := .int (gI h3 962 a0)) hx hb hown hk hR clk_X14 f1 (by decide) (by decide) q2347 (fun _ h9 => h9) rfl dX14_next_2_32 ?_
    refine w_call (mi := mX11_init) (As := [vR (hz h1), vR (gR h2 963 a0), vI ri3, vI (gI h3 961 a0), vI (gI h3 962 a0)]) (rest := [vr (hz h1)]) (len := 3) hk hR hL hsz hsB htr hRr (cok_I (argsL := [vr (gR h2 963 a0), .int ri3, .int (gI h3 961 a0), .int (gI h3 962 a0)]) hx hb hown hk f.1 rfl q1569 q1570 q1571 kX11_init.1 kX11_init.2 rfl dX14_next_2_35) f.2 wX11_init iX11_init (by decide) (cat_sum _ (Nat.le_of_ble_eq_true rfl)) rfl (fun v h4 H locs f hR hL => ?_) (fun q h9 H locs hp hR hL => x_out hown hlk hR hL (fun x9 h9 => by rw [htb] at h9; exact absurd h9 List.not_mem_nil) ⟨hp.1, hp.2.1⟩ hp.2.2)
    obtain ⟨rfl, f⟩ := f
    show Wn p l e R s m args below meth c H locs _ (F0 m 38 ls [vr (hz h1)])
    refine w_astore_n' (L' := [(1, vR (hz h1)), (0, vR a0)]) hx hb dX14_next_2_38 rfl hl (by decide) rfl (fun ls hl => ?_)
    have hsz : ls.size = c.maxLocals := hl.1.trans hml.symm
    refine w_aload_n hx hb dX14_next_2_39 rfl (lv_v hl (k := 1) rfl rfl) ?_
    refine w_call (mi := mX14_steps) (As := [vR a0]) (rest := []) (len := 3) hk hR hL hsz hsB htr hRr (cok_V (i := 24) (C := RX14) (argsL := []) hx hb hown hk hR f.1 (by decide) rfl q1590 q1592 qs28 q1593 kX14_steps.1 kX14_steps.2 rfl dX14_next_2_40) f.2 wX14_steps iX14_steps (by decide) (cat_sum _ (Nat.le_of_ble_eq_true rfl)) rfl (fun v h5 H locs f hR hL => ?_) (fun q h9 H locs hp hR hL => x_out hown hlk hR hL (fun x9 h9 => by rw [htb] at h9; exact absurd h9 List.not_mem_nil) ⟨hp.1, hp.2.1⟩ hp.2.2)
    obtain ⟨rfl, f⟩ := f
    show Wn p l e R s m args below meth c H locs _ (F0 m 43 ls [])
    refine w_aload_n (a := hz h1) hx hb dX14_next_2_43 rfl (lv_v hl (k := 0) rfl rfl) ?_
    exact w_aret hx hb hr (Or.inl ⟨_, rfl⟩) hlk hR hL dX14_next_2_44 f
  · have f := f.2 c9
    exact False.elim f
theorem t_X14_next_2 {G : Wd} {l : Launch} {d : Nat} {post : Option Value → VH → Prop} {xp : Nat → VH → Prop} {a0 : Nat} {h : VH} (hd : 9 ≤ d)
    (f : (kd h a0 = 25) ∧ D G l (d - 1) mX14_hasNext [vR a0] h (fun v h1 => ∃ ri1, v = some (.int ri1) ∧ ((¬ ri1 = 0 → ((hz h1 ≤ wC G) ∧ (hs h1 + 5 ≤ wS G) ∧ (∀ h2 : VH, h2 = al h1 21 0 5 → ((kd h2 a0 = 25) ∧ ((kd h2 a0 = 25) ∧ D G l (d - 1) mX14_player [vR a0] h2 (fun v h3 => ∃ ri3, v = some (.int ri3) ∧ ((kd h3 a0 = 25) ∧ ((kd h3 a0 = 25) ∧ ((hz h1) ≠ 0 ∧ D G l (d - 1) mX11_init [vR (hz h1), vR (gR h2 963 a0), vI ri3, vI (gI h3 961 a0), vI (gI h3 962 a0)] h3 (fun v h4 => v = none ∧ ((kd h4 a0 = 25) ∧ D G l (d - 1) mX14_steps [vR a0] h4 (fun v h5 => v = none ∧ (post (some (vr (hz h1))) h5)) xp)) xp)))) xp))))) ∧ (ri1 = 0 → (False)))) xp) : D G l d mX14_next_2 [vR a0] h post xp := D_in hd rfl rfl fun V XV C => b_X14_next_2_0 C f
theorem b_X14_player_0 {G : Wd} {l : Launch} {d : Nat} {post : Option Value → VH → Prop} {xp : Nat → VH → Prop} {V : Nat → List (Nat × VT) → List Value → VH → Prop} {XV : Nat → List (Nat × VT) → Nat → VH → Prop} (C : Ctx G l d mX14_player post xp V XV) {a0 : Nat} {h : VH}
    (f : (kd h a0 = 25) ∧ ((kd h (gR h 963 a0) = 1) ∧ ((kd h (gR h 0 (gR h 963 a0)) = 2) ∧ ((kd h a0 = 25) ∧ ((kd h a0 = 25) ∧ ((kd h (gR h 963 a0) = 1) ∧ ((kd h (gR h 0 (gR h 963 a0)) = 2) ∧ ((kd h (gR h 40 (gR h 0 (gR h 963 a0))) = 3) ∧ ((¬ (gI h 82 (gR h 40 (gR h 0 (gR h 963 a0)))) = 0) ∧ (post (some (.int (jrem ((gI h 50 (gR h 0 (gR h 963 a0))) + (gI h 960 a0)) (gI h 82 (gR h 40 (gR h 0 (gR h 963 a0))))))) h)))))))))) : V 0 [(0, vR a0)] [] h := by
  obtain ⟨p, e, R, s, m, args, below, meth, c, Q, ⟨hx, hb, hr, hlk, hml, hown, hk, hRr, htb, hnm, hsB, htr, hQ⟩, hV, hX⟩ := C
  rw [hV]
  intro H locs ls hR hL hl
  have hb : c.code = cX14_player := hb
  have hr : meth.sig.returnType = some .int := hr
  have hml : c.maxLocals = 1 := hml
  have hown : s.vm.findClass RX14 = some m.cls := hown
  have hl : lv_has ls 1 (lm [(0, vR a0)]) := hl
  have hsz : ls.size = c.maxLocals := hl.1.trans hml.symm
  subst hQ
  refine w_aload_n hx hb dX14_player_0 rfl (lv_v hl (k := 0) rfl rfl) ?_
  obtain ⟨f1, f⟩ := f
  refine w_get (i := 24) (k := 3) (v := vr (gR h 963 a0)) hx hb hown hk hR clk_X14 f1 (by decide) (by decide) q2348 (fun _ h9 => h9) rfl dX14_player_1 ?_
  obtain ⟨f1, f⟩ := f
  refine w_getN (i := 0) (k := 0) (v := vr (gR h 0 (gR h 963 a0))) hx hb hown hk hR clk_X1 f1 (by decide) (by decide) q858 (fun _ h9 => h9) rfl dX14_player_4 ?_
  obtain ⟨f1, f⟩ := f
  refine w_getN (i := 1) (k := 10) (v := .int (gI h 50 (gR h 0 (gR h 963 a0)))) hx hb hown hk hR clk_X2 f1 (by decide) (by decide) q730 (fun _ h9 => h9) rfl dX14_player_7 ?_
  refine w_aload_n hx hb dX14_player_10 rfl (lv_v hl (k := 0) rfl rfl) ?_
  obtain ⟨f1, f⟩ := f
  refine w_get (i := 24) (k := 0) (v := .int (gI h 960 a0)) hx hb hown hk hR clk_X14 f1 (by decide) (by decide) q2345 (fun _ h9 => h9) rfl dX14_player_11 ?_
  refine lv_iadd hx hb dX14_player_14 ?_
  refine w_aload_n hx hb dX14_player_15 rfl (lv_v hl (k := 0) rfl rfl) ?_
  obtain ⟨f1, f⟩ := f
  refine w_get (i := 24) (k := 3) (v := vr (gR h 963 a0)) hx hb hown hk hR clk_X14 f1 (by decide) (by decide) q2348 (fun _ h9 => h9) rfl dX14_player_16 ?_
  obtain ⟨f1, f⟩ := f
  refine w_getN (i := 0) (k := 0) (v := vr (gR h 0 (gR h 963 a0))) hx hb hown hk hR clk_X1 f1 (by decide) (by decide) q858 (fun _ h9 => h9) rfl dX14_player_19 ?_
  obtain ⟨f1, f⟩ := f
  refine w_getN (i := 1) (k := 0) (v := vr (gR h 40 (gR h 0 (gR h 963 a0)))) hx hb hown hk hR clk_X2 f1 (by decide) (by decide) q705 (fun _ h9 => h9) rfl dX14_player_22 ?_
  obtain ⟨f1, f⟩ := f
  refine w_getN (i := 2) (k := 2) (v := .int (gI h 82 (gR h 40 (gR h 0 (gR h 963 a0))))) hx hb hown hk hR clk_X3 f1 (by decide) (by decide) q299 (fun _ h9 => h9) rfl dX14_player_25 ?_
  obtain ⟨f1, f⟩ := f
  refine w_irem hx hb dX14_player_28 f1 ?_
  exact w_iret hx hb hr hlk hR hL dX14_player_29 f
theorem t_X14_player {G : Wd} {l : Launch} {d : Nat} {post : Option Value → VH → Prop} {xp : Nat → VH → Prop} {a0 : Nat} {h : VH} (hd : 9 ≤ d)
    (f : (kd h a0 = 25) ∧ ((kd h (gR h 963 a0) = 1) ∧ ((kd h (gR h 0 (gR h 963 a0)) = 2) ∧ ((kd h a0 = 25) ∧ ((kd h a0 = 25) ∧ ((kd h (gR h 963 a0) = 1) ∧ ((kd h (gR h 0 (gR h 963 a0)) = 2) ∧ ((kd h (gR h 40 (gR h 0 (gR h 963 a0))) = 3) ∧ ((¬ (gI h 82 (gR h 40 (gR h 0 (gR h 963 a0)))) = 0) ∧ (post (some (.int (jrem ((gI h 50 (gR h 0 (gR h 963 a0))) + (gI h 960 a0)) (gI h 82 (gR h 40 (gR h 0 (gR h 963 a0))))))) h)))))))))) : D G l d mX14_player [vR a0] h post xp := D_in hd rfl rfl fun V XV C => b_X14_player_0 C f
theorem b_X14_steps_0 {G : Wd} {l : Launch} {d : Nat} {post : Option Value → VH → Prop} {xp : Nat → VH → Prop} {V : Nat → List (Nat × VT) → List Value → VH → Prop} {XV : Nat → List (Nat × VT) → Nat → VH → Prop} (C : Ctx G l d mX14_steps post xp V XV) {a0 : Nat} {h : VH}
    (f : (kd h a0 = 25) ∧ ((kd h a0 = 25) ∧ (∀ h1 : VH, h1 = sI h 962 a0 ((gI h 962 a0) + (jI 1)) → ((kd h1 a0 = 25) ∧ ((kd h1 a0 = 25) ∧ ((kd h1 (gR h1 963 a0) = 1) ∧ ((kd h1 (gR h1 0 (gR h1 963 a0)) = 2) ∧ ((kd h1 a0 = 25) ∧ ((kd h1 (gR h1 40 (gR h1 0 (gR h1 963 a0))) = 3) ∧ D G l d mX3_lastValue [vR (gR h1 40 (gR h1 0 (gR h1 963 a0))), vI (gI h1 961 a0)] h1 (fun v h2 => ∃ ri2, v = some (.int ri2) ∧ (((gI h1 962 a0) ≤ ri2 → ((kd h2 a0 = 25) ∧ D G l d mX14_hasNext [vR a0] h2 (fun v h3 => ∃ ri3, v = some (.int ri3) ∧ ((ri3 = 0 → (post none h3)) ∧ (¬ ri3 = 0 → ((kd h3 a0 = 25) ∧ ((kd h3 (gR h3 963 a0) = 1) ∧ ((kd h3 a0 = 25) ∧ D G l d mX14_player [vR a0] h3 (fun v h4 => ∃ ri4, v = some (.int ri4) ∧ ((kd h4 a0 = 25) ∧ ((kd h4 a0 = 25) ∧ ((kd h4 (gR h3 0 (gR h3 963 a0)) = 2) ∧ D G l d mX2_canHint [vR (gR h3 0 (gR h3 963 a0)), vI ri4, vI (gI h4 961 a0), vI (gI h4 962 a0)] h4 (fun v h5 => ∃ ri5, v = some (.int ri5) ∧ ((ri5 = 0 → (V 0 [(0, vR a0)] [] h5)) ∧ (¬ ri5 = 0 → (post none h5)))) xp)))) xp)))))) xp)) ∧ (¬ (gI h1 962 a0) ≤ ri2 → ((kd h2 a0 = 25) ∧ ((kd h2 a0 = 25) ∧ ((kd h2 a0 = 25) ∧ (∀ h6 : VH, h6 = sI h2 960 a0 ((gI h2 960 a0) + (gI h2 961 a0)) → ((kd h6 a0 = 25) ∧ ((kd h6 a0 = 25) ∧ (∀ h7 : VH, h7 = sI h6 961 a0 ((jI 1) - (gI h6 961 a0)) → ((kd h7 a0 = 25) ∧ ((kd h7 (gR h7 963 a0) = 1) ∧ ((kd h7 (gR h7 0 (gR h7 963 a0)) = 2) ∧ ((kd h7 a0 = 25) ∧ ((kd h7 (gR h7 40 (gR h7 0 (gR h7 963 a0))) = 3) ∧ D G l d mX3_firstValue [vR (gR h7 40 (gR h7 0 (gR h7 963 a0))), vI (gI h7 961 a0)] h7 (fun v h8 => ∃ ri8, v = some (.int ri8) ∧ ((kd h8 a0 = 25) ∧ (∀ h9 : VH, h9 = sI h8 962 a0 ri8 → ((kd h9 a0 = 25) ∧ D G l d mX14_hasNext [vR a0] h9 (fun v h10 => ∃ ri10, v = some (.int ri10) ∧ ((ri10 = 0 → (post none h10)) ∧ (¬ ri10 = 0 → ((kd h10 a0 = 25) ∧ ((kd h10 (gR h10 963 a0) = 1) ∧ ((kd h10 a0 = 25) ∧ D G l d mX14_player [vR a0] h10 (fun v h11 => ∃ ri11, v = some (.int ri11) ∧ ((kd h11 a0 = 25) ∧ ((kd h11 a0 = 25) ∧ ((kd h11 (gR h10 0 (gR h10 963 a0)) = 2) ∧ D G l d mX2_canHint [vR (gR h10 0 (gR h10 963 a0)), vI ri11, vI (gI h11 961 a0), vI (gI h11 962 a0)] h11 (fun v h12 => ∃ ri12, v = some (.int ri12) ∧ ((ri12 = 0 → (V 0 [(0, vR a0)] [] h12)) ∧ (¬ ri12 = 0 → (post none h12)))) xp)))) xp)))))) xp)))) xp))))))))))))))) xp))))))))) : V 0 [(0, vR a0)] [] h := by
  obtain ⟨p, e, R, s, m, args, below, meth, c, Q, ⟨hx, hb, hr, hlk, hml, hown, hk, hRr, htb, hnm, hsB, htr, hQ⟩, hV, hX⟩ := C
  rw [hV]
  intro H locs ls hR hL hl
  have hb : c.code = cX14_steps := hb
  have hr : meth.sig.returnType = none := hr
  have hml : c.maxLocals = 1 := hml
  have hown : s.vm.findClass RX14 = some m.cls := hown
  have hl : lv_has ls 1 (lm [(0, vR a0)]) := hl
  have hsz : ls.size = c.maxLocals := hl.1.trans hml.symm
  subst hQ
  refine w_aload_n hx hb dX14_steps_0 rfl (lv_v hl (k := 0) rfl rfl) ?_
  refine lv_dup hx hb dX14_steps_1 (vr_cat _) ?_
  obtain ⟨f1, f⟩ := f
  refine w_get (i := 24) (k := 2) (v := .int (gI h 962 a0)) hx hb hown hk hR clk_X14 f1 (by decide) (by decide) q2347 (fun _ h9 => h9) rfl dX14_steps_2 ?_
  refine w_iconst hx hb dX14_steps_5 ?_
  refine lv_iadd hx hb dX14_steps_6 ?_
  obtain ⟨f1, f⟩ := f
  refine w_put (i := 24) (k := 2) (c1 := cI (h.1 a0) 962 ((gI h 962 a0) + (jI 1))) hx hb hown hk hR hL clk_X14 f1 (by decide) (by decide) q2347 (fun _ h9 => h9) rfl ⟨rfl, rfl⟩ rfl (pvI clk_X14 (by decide) rfl rfl) dX14_steps_7 (fun H locs hR hL => ?_)
  obtain ⟨h1, eh1⟩ : ∃ z : VH, z = sI h 962 a0 ((gI h 962 a0) + (jI 1)) := ⟨_, rfl⟩
  have hR : Rp G h1 H := by rw [eh1]; exact hR
  have f := f h1 eh1
  refine w_aload_n hx hb dX14_steps_10 rfl (lv_v hl (k := 0) rfl rfl) ?_
  obtain ⟨f1, f⟩ := f
  refine w_get (i := 24) (k := 2) (v := .int (gI h1 962 a0)) hx hb hown hk hR clk_X14 f1 (by decide) (by decide) q2347 (fun _ h9 => h9) rfl dX14_steps_11 ?_
  refine w_aload_n hx hb dX14_steps_14 rfl (lv_v hl (k := 0) rfl rfl) ?_
  obtain ⟨f1, f⟩ := f
  refine w_get (i := 24) (k := 3) (v := vr (gR h1 963 a0)) hx hb hown hk hR clk_X14 f1 (by decide) (by decide) q2348 (fun _ h9 => h9) rfl dX14_steps_15 ?_
  obtain ⟨f1, f⟩ := f
  refine w_getN (i := 0) (k := 0) (v := vr (gR h1 0 (gR h1 963 a0))) hx hb hown hk hR clk_X1 f1 (by decide) (by decide) q858 (fun _ h9 => h9) rfl dX14_steps_18 ?_
  obtain ⟨f1, f⟩ := f
  refine w_getN (i := 1) (k := 0) (v := vr (gR h1 40 (gR h1 0 (gR h1 963 a0)))) hx hb hown hk hR clk_X2 f1 (by decide) (by decide) q705 (fun _ h9 => h9) rfl dX14_steps_21 ?_
  refine w_aload_n hx hb dX14_steps_24 rfl (lv_v hl (k := 0) rfl rfl) ?_
  obtain ⟨f1, f⟩ := f
  refine w_get (i := 24) (k := 1) (v := .int (gI h1 961 a0)) hx hb hown hk hR clk_X14 f1 (by decide) (by decide) q2346 (fun _ h9 => h9) rfl dX14_steps_25 ?_
  refine w_call (mi := mX3_lastValue) (As := [vR (gR h1 40 (gR h1 0 (gR h1 963 a0))), vI (gI h1 961 a0)]) (rest := [.int (gI h1 962 a0)]) (len := 3) hk hR hL hsz hsB htr hRr (cok_V (i := 2) (C := RX3) (argsL := [.int (gI h1 961 a0)]) hx hb hown hk hR f.1 (by decide) rfl q1594 q1277 q1278 q1279 kX3_lastValue.1 kX3_lastValue.2 rfl dX14_steps_28) f.2 wX3_lastValue iX3_lastValue (by decide) (cat_sum _ (Nat.le_of_ble_eq_true rfl)) rfl (fun v h2 H locs f hR hL => ?_) (fun q h9 H locs hp hR hL => x_out hown hlk hR hL (fun x9 h9 => by rw [htb] at h9; exact absurd h9 List.not_mem_nil) ⟨hp.1, hp.2.1⟩ hp.2.2)
  obtain ⟨ri2, rfl, f⟩ := f
  show Wn p l e R s m args below meth c H locs _ (F0 m 31 ls [.int ri2, .int (gI h1 962 a0)])
  refine lv_icmp_le (tgt := 78) hx hb dX14_steps_31 (by decide) (fun c9 => ?_) (fun c9 => ?_)
  · have f := f.1 c9
    refine w_aload_n hx hb dX14_steps_78 rfl (lv_v hl (k := 0) rfl rfl) ?_
    refine w_call (mi := mX14_hasNext) (As := [vR a0]) (rest := []) (len := 3) hk hR hL hsz hsB htr hRr (cok_V (i := 24) (C := RX14) (argsL := []) hx hb hown hk hR f.1 (by decide) rfl q1540 q1498 q3607 q1500 kX14_hasNext.1 kX14_hasNext.2 rfl dX14_steps_79) f.2 wX14_hasNext iX14_hasNext (by decide) (cat_sum _ (Nat.le_of_ble_eq_true rfl)) rfl (fun v h3 H locs f hR hL => ?_) (fun q h9 H locs hp hR hL => x_out hown hlk hR hL (fun x9 h9 => by rw [htb] at h9; exact absurd h9 List.not_mem_nil) ⟨hp.1, hp.2.1⟩ hp.2.2)
    obtain ⟨ri3, rfl, f⟩ := f
    show Wn p l e R s m args below meth c H locs _ (F0 m 82 ls [.int ri3])
    refine lv_if_eq (tgt := 110) hx hb dX14_steps_82 (by decide) (fun c9 => ?_) (fun c9 => ?_)
    · have f := f.1 c9
      exact w_vret hx hb hr hlk hR hL dX14_steps_110 f
    · have f := f.2 c9
      refine w_aload_n hx hb dX14_steps_85 rfl (lv_v hl (k := 0) rfl rfl) ?_
      obtain ⟨f1, f⟩ := f
      refine w_get (i := 24) (k := 3) (v := vr (gR h3 963 a0)) hx hb hown hk hR clk_X14 f1 (by decide) (by decide) q2348 (fun _ h9 => h9) rfl dX14_steps_86 ?_
      obtain ⟨f1, f⟩ := f
      refine w_getN (i := 0) (k := 0) (v := vr (gR h3 0 (gR h3 963 a0))) hx hb hown hk hR clk_X1 f1 (by decide) (by decide) q858 (fun _ h9 => h9) rfl dX14_steps_89 ?_
      refine w_aload_n hx hb dX14_steps_92 rfl (lv_v hl (k := 0) rfl rfl) ?_
      refine w_call (mi := mX14_player) (As := [vR a0]) (rest := [vr (gR h3 0 (gR h3 963 a0))]) (len := 3) hk hR hL hsz hsB htr hRr (cok_V (i := 24) (C := RX14) (argsL := []) hx hb hown hk hR f.1 (by decide) rfl q1564 q1566 qs27 q1568 kX14_player.1 kX14_player.2 rfl dX14_steps_93) f.2 wX14_player iX14_player (by decide) (cat_sum _ (Nat.le_of_ble_eq_true rfl)) rfl (fun v h4 H locs f hR hL => ?_) (fun q h9 H locs hp hR hL => x_out hown hlk hR hL (fun x9 h9 => by rw [htb] at h9; exact absurd h9 List.not_mem_nil) ⟨hp.1, hp.2.1⟩ hp.2.2)
      obtain ⟨ri4, rfl, f⟩ := f
      show Wn p l e R s m args below meth c H locs _ (F0 m 96 ls [.int ri4, vr (gR h3 0 (gR h3 963 a0))])
      refine w_aload_n hx hb dX14_steps_96 rfl (lv_v hl (k := 0) rfl rfl) ?_
      obtain ⟨f1, f⟩ := f
      refine w_get (i := 24) (k := 1) (v := .int (gI h4 961 a0)) hx hb hown hk hR clk_X14 f1 (by decide) (by decide) q2346 (fun _ h9 => h9) rfl dX14_steps_97 ?_
      refine w_aload_n hx hb dX14_steps_100 rfl (lv_v hl (k := 0) rfl rfl) ?_
      obtain ⟨f1, f⟩ := f
      refine w_get (i := 24) (k := 2) (v := .int (gI h4 962 a0)) hx hb hown hk hR clk_X14 f1 (by decide) (by decide) q2347 (fun _ h9 => h9) rfl dX14_steps_101 ?_
      refine w_call (mi := mX2_canHint) (As := [vR (gR h3 0 (gR h3 963 a0)), vI ri4, vI (gI h4 961 a0), vI (gI h4 962 a0)]) (rest := []) (len := 3) hk hR hL hsz hsB htr hRr (cok_V (i := 1) (C := RX2) (argsL := [.int ri4, .int (gI h4 961 a0), .int (gI h4 962 a0)]) hx hb hown hk hR f.1 (by decide) rfl q1596 q1597 q1598 q1599 kX2_canHint.1 kX2_canHint.2 rfl dX14_steps_104) f.2 wX2_canHint iX2_canHint (by decide) (cat_sum _ (Nat.le_of_ble_eq_true rfl)) rfl (fun v h5 H locs f hR hL => ?_) (fun q h9 H locs hp hR hL => x_out hown hlk hR hL (fun x9 h9 => by rw [htb] at h9; exact absurd h9 List.not_mem_nil) ⟨hp.1, hp.2.1⟩ hp.2.2)
      obtain ⟨ri5, rfl, f⟩ := f
      show Wn p l e R s m args below meth c H locs _ (F0 m 107 ls [.int ri5])
      refine lv_if_eq (tgt := 0) hx hb dX14_steps_107 (by decide) (fun c9 => ?_) (fun c9 => ?_)
      · have f := f.1 c9
        exact (hV _ _ _ _).mp f H locs _ hR hL (lv_p hl [0] rfl)
      · have f := f.2 c9
        exact w_vret hx hb hr hlk hR hL dX14_steps_110 f
  · have f := f.2 c9
    refine w_aload_n hx hb dX14_steps_34 rfl (lv_v hl (k := 0) rfl rfl) ?_
    refine lv_dup hx hb dX14_steps_35 (vr_cat _) ?_
    obtain ⟨f1, f⟩ := f
    refine w_get (i := 24) (k := 0) (v := .int (gI h2 960 a0)) hx hb hown hk hR clk_X14 f1 (by decide) (by decide) q2345 (fun _ h9 => h9) rfl dX14_steps_36 ?_
    refine w_aload_n hx hb dX14_steps_39 rfl (lv_v hl (k := 0) rfl rfl) ?_
    obtain ⟨f1, f⟩ := f
    refine w_get (i := 24) (k := 1) (v := .int (gI h2 961 a0)) hx hb hown hk hR clk_X14 f1 (by decide) (by decide) q2346 (fun _ h9 => h9) rfl dX14_steps_40 ?_
    refine lv_iadd hx hb dX14_steps_43 ?_
    obtain ⟨f1, f⟩ := f
    refine w_put (i := 24) (k := 0) (c1 := cI (h2.1 a0) 960 ((gI h2 960 a0) + (gI h2 961 a0))) hx hb hown hk hR hL clk_X14 f1 (by decide) (by decide) q2345 (fun _ h9 => h9) rfl ⟨rfl, rfl⟩ rfl (pvI clk_X14 (by decide) rfl rfl) dX14_steps_44 (fun H locs hR hL => ?_)
    obtain ⟨h6, eh6⟩ : ∃ z : VH, z = sI h2 960 a0 ((gI h2 960 a0) + (gI h2 961 a0)) := ⟨_, rfl⟩
    have hR : Rp G h6 H := by rw [eh6]; exact hR
    have f := f h6 eh6
    refine w_aload_n hx hb dX14_steps_47 rfl (lv_v hl (k := 0) rfl rfl) ?_
    refine w_iconst hx hb dX14_steps_48 ?_
    refine w_aload_n hx hb dX14_steps_49 rfl (lv_v hl (k := 0) rfl rfl) ?_
    obtain ⟨f1, f⟩ := f
    refine w_get (i := 24) (k := 1) (v := .int (gI h6 961 a0)) hx hb hown hk hR clk_X14 f1 (by decide) (by decide) q2346 (fun _ h9 => h9) rfl dX14_steps_50 ?_
    refine lv_isub hx hb dX14_steps_53 ?_
    obtain ⟨f1, f⟩ := f
    refine w_put (i := 24) (k := 1) (c1 := cI (h6.1 a0) 961 ((jI 1) - (gI h6 961 a0))) hx hb hown hk hR hL clk_X14 f1 (by decide) (by decide) q2346 (fun _ h9 => h9) rfl ⟨rfl, rfl⟩ rfl (pvI clk_X14 (by decide) rfl rfl) dX14_steps_54 (fun H locs hR hL => ?_)
    obtain ⟨h7, eh7⟩ : ∃ z : VH, z = sI h6 961 a0 ((jI 1) - (gI h6 961 a0)) := ⟨_, rfl⟩
    have hR : Rp G h7 H := by rw [eh7]; exact hR
    have f := f h7 eh7
    refine w_aload_n hx hb dX14_steps_57 rfl (lv_v hl (k := 0) rfl rfl) ?_
    refine w_aload_n hx hb dX14_steps_58 rfl (lv_v hl (k := 0) rfl rfl) ?_
    obtain ⟨f1, f⟩ := f
    refine w_get (i := 24) (k := 3) (v := vr (gR h7 963 a0)) hx hb hown hk hR clk_X14 f1 (by decide) (by decide) q2348 (fun _ h9 => h9) rfl dX14_steps_59 ?_
    obtain ⟨f1, f⟩ := f
    refine w_getN (i := 0) (k := 0) (v := vr (gR h7 0 (gR h7 963 a0))) hx hb hown hk hR clk_X1 f1 (by decide) (by decide) q858 (fun _ h9 => h9) rfl dX14_steps_62 ?_
    obtain ⟨f1, f⟩ := f
    refine w_getN (i := 1) (k := 0) (v := vr (gR h7 40 (gR h7 0 (gR h7 963 a0)))) hx hb hown hk hR clk_X2 f1 (by decide) (by decide) q705 (fun _ h9 => h9) rfl dX14_steps_65 ?_
    refine w_aload_n hx hb dX14_steps_68 rfl (lv_v hl (k := 0) rfl rfl) ?_
    obtain ⟨f1, f⟩ := f
    refine w_get (i := 24) (k := 1) (v := .int (gI h7 961 a0)) hx hb hown hk hR clk_X14 f1 (by decide) (by decide) q2346 (fun _ h9 => h9) rfl dX14_steps_69 ?_
    refine w_call (mi := mX3_firstValue) (As := [vR (gR h7 40 (gR h7 0 (gR h7 963 a0))), vI (gI h7 961 a0)]) (rest := [vr a0]) (len := 3) hk hR hL hsz hsB htr hRr (cok_V (i := 2) (C := RX3) (argsL := [.int (gI h7 961 a0)]) hx hb hown hk hR f.1 (by decide) rfl q1595 q1273 q1274 q1275 kX3_firstValue.1 kX3_firstValue.2 rfl dX14_steps_72) f.2 wX3_firstValue iX3_firstValue (by decide) (cat_sum _ (Nat.le_of_ble_eq_true rfl)) rfl (fun v h8 H locs f hR hL => ?_) (fun q h9 H locs hp hR hL => x_out hown hlk hR hL (fun x9 h9 => by rw [htb] at h9; exact absurd h9 List.not_mem_nil) ⟨hp.1, hp.2.1⟩ hp.2.2)
    obtain ⟨ri8, rfl, f⟩ := f
    show Wn p l e R s m args below meth c H locs _ (F0 m 75 ls [.int ri8, vr a0])
    obtain ⟨f1, f⟩ := f
    refine w_put (i := 24) (k := 2) (c1 := cI (h8.1 a0) 962 ri8) hx hb hown hk hR hL clk_X14 f1 (by decide) (by decide) q2347 (fun _ h9 => h9) rfl ⟨rfl, rfl⟩ rfl (pvI clk_X14 (by decide) rfl rfl) dX14_steps_75 (fun H locs hR hL => ?_)
    obtain ⟨h9, eh9⟩ : ∃ z : VH, z = sI h8 962 a0 ri8 := ⟨_, rfl⟩
    have hR : Rp G h9 H := by rw [eh9]; exact hR
    have f := f h9 eh9
    refine w_aload_n hx hb dX14_steps_78 rfl (lv_v hl (k := 0) rfl rfl) ?_
    refine w_call (mi := mX14_hasNext) (As := [vR a0]) (rest := []) (len := 3) hk hR hL hsz hsB htr hRr (cok_V (i := 24) (C := RX14) (argsL := []) hx hb hown hk hR f.1 (by decide) rfl q1540 q1498 q3607 q1500 kX14_hasNext.1 kX14_hasNext.2 rfl dX14_steps_79) f.2 wX14_hasNext iX14_hasNext (by decide) (cat_sum _ (Nat.le_of_ble_eq_true rfl)) rfl (fun v h10 H locs f hR hL => ?_) (fun q h9 H locs hp hR hL => x_out hown hlk hR hL (fun x9 h9 => by rw [htb] at h9; exact absurd h9 List.not_mem_nil) ⟨hp.1, hp.2.1⟩ hp.2.2)
    obtain ⟨ri10, rfl, f⟩ := f
    show Wn p l e R s m args below meth c H locs _ (F0 m 82 ls [.int ri10])
    refine lv_if_eq (tgt := 110) hx hb dX14_steps_82 (by decide) (fun c9 => ?_) (fun c9 => ?_)
    · have f := f.1 c9
      exact w_vret hx hb hr hlk hR hL dX14_steps_110 f
    · have f := f.2 c9
      refine w_aload_n hx hb dX14_steps_85 rfl (lv_v hl (k := 0) rfl rfl) ?_
      obtain ⟨f1, f⟩ := f
      refine w_get (i := 24) (k := 3) (v := vr (gR h10 963 a0)) hx hb hown hk hR clk_X14 f1 (by decide) (by decide) q2348 (fun _ h9 => h9) rfl dX14_steps_86 ?_
      obtain ⟨f1, f⟩ := f
      refine w_getN (i := 0) (k := 0) (v := vr (gR h10 0 (gR h10 963 a0))) hx hb hown hk hR clk_X1 f1 (by decide) (by decide) q858 (fun _ h9 => h9) rfl dX14_steps_89 ?_
      refine w_aload_n hx hb dX14_steps_92 rfl (lv_v hl (k := 0) rfl rfl) ?_
      refine w_call (mi := mX14_player) (As := [vR a0]) (rest := [vr (gR h10 0 (gR h10 963 a0))]) (len := 3) hk hR hL hsz hsB htr hRr (cok_V (i := 24) (C := RX14) (argsL := []) hx hb hown hk hR f.1 (by decide) rfl q1564 q1566 qs27 q1568 kX14_player.1 kX14_player.2 rfl dX14_steps_93) f.2 wX14_player iX14_player (by decide) (cat_sum _ (Nat.le_of_ble_eq_true rfl)) rfl (fun v h11 H locs f hR hL => ?_) (fun q h9 H locs hp hR hL => x_out hown hlk hR hL (fun x9 h9 => by rw [htb] at h9; exact absurd h9 List.not_mem_nil) ⟨hp.1, hp.2.1⟩ hp.2.2)
      obtain ⟨ri11, rfl, f⟩ := f
      show Wn p l e R s m args below meth c H locs _ (F0 m 96 ls [.int ri11, vr (gR h10 0 (gR h10 963 a0))])
      refine w_aload_n hx hb dX14_steps_96 rfl (lv_v hl (k := 0) rfl rfl) ?_
      obtain ⟨f1, f⟩ := f
      refine w_get (i := 24) (k := 1) (v := .int (gI h11 961 a0)) hx hb hown hk hR clk_X14 f1 (by decide) (by decide) q2346 (fun _ h9 => h9) rfl dX14_steps_97 ?_
      refine w_aload_n hx hb dX14_steps_100 rfl (lv_v hl (k := 0) rfl rfl) ?_
      obtain ⟨f1, f⟩ := f
      refine w_get (i := 24) (k := 2) (v := .int (gI h11 962 a0)) hx hb hown hk hR clk_X14 f1 (by decide) (by decide) q2347 (fun _ h9 => h9) rfl dX14_steps_101 ?_
      refine w_call (mi := mX2_canHint) (As := [vR (gR h10 0 (gR h10 963 a0)), vI ri11, vI (gI h11 961 a0), vI (gI h11 962 a0)]) (rest := []) (len := 3) hk hR hL hsz hsB htr hRr (cok_V (i := 1) (C := RX2) (argsL := [.int ri11, .int (gI h11 961 a0), .int (gI h11 962 a0)]) hx hb hown hk hR f.1 (by decide) rfl q1596 q1597 q1598 q1599 kX2_canHint.1 kX2_canHint.2 rfl dX14_steps_104) f.2 wX2_canHint iX2_canHint (by decide) (cat_sum _ (Nat.le_of_ble_eq_true rfl)) rfl (fun v h12 H locs f hR hL => ?_) (fun q h9 H locs hp hR hL => x_out hown hlk hR hL (fun x9 h9 => by rw [htb] at h9; exact absurd h9 List.not_mem_nil) ⟨hp.1, hp.2.1⟩ hp.2.2)
      obtain ⟨ri12, rfl, f⟩ := f
      show Wn p l e R s m args below meth c H locs _ (F0 m 107 ls [.int ri12])
      refine lv_if_eq (tgt := 0) hx hb dX14_steps_107 (by decide) (fun c9 => ?_) (fun c9 => ?_)
      · have f := f.1 c9
        exact (hV _ _ _ _).mp f H locs _ hR hL (lv_p hl [0] rfl)
      · have f := f.2 c9
        exact w_vret hx hb hr hlk hR hL dX14_steps_110 f
theorem b_X2_areWhole_0 {G : Wd} {l : Launch} {d : Nat} {post : Option Value → VH → Prop} {xp : Nat → VH → Prop} {V : Nat → List (Nat × VT) → List Value → VH → Prop} {XV : Nat → List (Nat × VT) → Nat → VH → Prop} (C : Ctx G l d mX2_areWhole post xp V XV) {a0 : Nat} {h : VH}
    (f : V 2 [(0, vR a0), (1, vI (jI 0))] [] h) : V 0 [(0, vR a0)] [] h := by
  obtain ⟨p, e, R, s, m, args, below, meth, c, Q, ⟨hx, hb, hr, hlk, hml, hown, hk, hRr, htb, hnm, hsB, htr, hQ⟩, hV, hX⟩ := C
  rw [hV]
  intro H locs ls hR hL hl
  have hb : c.code = cX2_areWhole := hb
  have hr : meth.sig.returnType = some .boolean := hr
  have hml : c.maxLocals = 2 := hml
  have hown : s.vm.findClass RX2 = some m.cls := hown
  have hl : lv_has ls 2 (lm [(0, vR a0)]) := hl
  have hsz : ls.size = c.maxLocals := hl.1.trans hml.symm
  subst hQ
  refine w_iconst hx hb dX2_areWhole_0 ?_
  refine w_istore_n (L' := [(1, vI (jI 0)), (0, vR a0)]) hx hb dX2_areWhole_1 rfl hl (by decide) rfl (fun ls hl => ?_)
  have hsz : ls.size = c.maxLocals := hl.1.trans hml.symm
  exact (hV _ _ _ _).mp f H locs _ hR hL (lv_p hl [1, 0] rfl)
theorem b_X2_areWhole_2 {G : Wd} {l : Launch} {d : Nat} {post : Option Value → VH → Prop} {xp : Nat → VH → Prop} {V : Nat → List (Nat × VT) → List Value → VH → Prop} {XV : Nat → List (Nat × VT) → Nat → VH → Prop} (C : Ctx G l d mX2_areWhole post xp V XV) {i1 : Int32} {a0 : Nat} {h : VH}
    (f : (kd h a0 = 2) ∧ ((kd h (gR h 40 a0) = 3) ∧ (((gI h 80 (gR h 40 a0)) ≤ i1 → (post (some (.int (jI 1))) h)) ∧ (¬ (gI h 80 (gR h 40 a0)) ≤ i1 → ((kd h a0 = 2) ∧ ((kd h (gR h 43 a0) = 200 ∨ kd h (gR h 43 a0) = 300) ∧ (vp_in i1 (ln h (gR h 43 a0))) ∧ ((kd h a0 = 2) ∧ ((kd h (gR h 40 a0) = 3) ∧ (((gI h 81 (gR h 40 a0)) ≤ (gI h (i1).toNatClampNeg (gR h 43 a0)) → (V 2 [(0, vR a0), (1, vI (i1 + (jI 1)))] [] h)) ∧ (¬ (gI h 81 (gR h 40 a0)) ≤ (gI h (i1).toNatClampNeg (gR h 43 a0)) → (post (some (.int (jI 0))) h))))))))))) : V 2 [(0, vR a0), (1, vI i1)] [] h := by
  obtain ⟨p, e, R, s, m, args, below, meth, c, Q, ⟨hx, hb, hr, hlk, hml, hown, hk, hRr, htb, hnm, hsB, htr, hQ⟩, hV, hX⟩ := C
  rw [hV]
  intro H locs ls hR hL hl
  have hb : c.code = cX2_areWhole := hb
  have hr : meth.sig.returnType = some .boolean := hr
  have hml : c.maxLocals = 2 := hml
  have hown : s.vm.findClass RX2 = some m.cls := hown
  have hl : lv_has ls 2 (lm [(0, vR a0), (1, vI i1)]) := hl
  have hsz : ls.size = c.maxLocals := hl.1.trans hml.symm
  subst hQ
  refine lv_iload_n hx hb dX2_areWhole_2 rfl (lv_v hl (k := 1) rfl rfl) ?_
  refine w_aload_n hx hb dX2_areWhole_3 rfl (lv_v hl (k := 0) rfl rfl) ?_
  obtain ⟨f1, f⟩ := f
  refine w_get (i := 1) (k := 0) (v := vr (gR h 40 a0)) hx hb hown hk hR clk_X2 f1 (by decide) (by decide) q704 (fun _ h9 => h9) rfl dX2_areWhole_4 ?_
  obtain ⟨f1, f⟩ := f
  refine w_getN (i := 2) (k := 0) (v := .int (gI h 80 (gR h 40 a0))) hx hb hown hk hR clk_X3 f1 (by decide) (by decide) q288 (fun _ h9 => h9) rfl dX2_areWhole_7 ?_
  refine lv_icmp_ge (tgt := 37) hx hb dX2_areWhole_10 (by decide) (fun c9 => ?_) (fun c9 => ?_)
  · have f := f.1 c9
    refine w_iconst hx hb dX2_areWhole_37 ?_
    exact w_zret hx hb hr hlk hR hL dX2_areWhole_38 rfl f
  · have f := f.2 c9
    refine w_aload_n hx hb dX2_areWhole_13 rfl (lv_v hl (k := 0) rfl rfl) ?_
    obtain ⟨f1, f⟩ := f
    refine w_get (i := 1) (k := 3) (v := vr (gR h 43 a0)) hx hb hown hk hR clk_X2 f1 (by decide) (by decide) q713 (fun _ h9 => h9) rfl dX2_areWhole_14 ?_
    refine lv_iload_n hx hb dX2_areWhole_17 rfl (lv_v hl (k := 1) rfl rfl) ?_
    obtain ⟨f1, f2, f⟩ := f
    refine or_k f1 (fun q9 kk => w_iald (t := 0) hx hb hk hR q9 (by decide) rfl f2 dX2_areWhole_18 kk) (fun q9 kk => w_iald (t := 100) hx hb hk hR q9 (by decide) rfl f2 dX2_areWhole_18 kk) ?_
    refine w_aload_n hx hb dX2_areWhole_19 rfl (lv_v hl (k := 0) rfl rfl) ?_
    obtain ⟨f1, f⟩ := f
    refine w_get (i := 1) (k := 0) (v := vr (gR h 40 a0)) hx hb hown hk hR clk_X2 f1 (by decide) (by decide) q704 (fun _ h9 => h9) rfl dX2_areWhole_20 ?_
    obtain ⟨f1, f⟩ := f
    refine w_getN (i := 2) (k := 1) (v := .int (gI h 81 (gR h 40 a0))) hx hb hown hk hR clk_X3 f1 (by decide) (by decide) q293 (fun _ h9 => h9) rfl dX2_areWhole_23 ?_
    refine lv_icmp_ge (tgt := 31) hx hb dX2_areWhole_26 (by decide) (fun c9 => ?_) (fun c9 => ?_)
    · have f := f.1 c9
      refine w_iinc (L' := [(1, vI (i1 + (jI 1))), (0, vR a0)]) hx hb dX2_areWhole_31 hl (k := 1) rfl (by decide) rfl (fun ls hl => ?_)
      have hsz : ls.size = c.maxLocals := hl.1.trans hml.symm
      refine lv_goto (tgt := 2) hx hb dX2_areWhole_34 (by decide) ?_
      exact (hV _ _ _ _).mp f H locs _ hR hL (lv_p hl [1, 0] rfl)
    · have f := f.2 c9
      refine w_iconst hx hb dX2_areWhole_29 ?_
      exact w_zret hx hb hr hlk hR hL dX2_areWhole_30 rfl f
theorem b_X2_begins_0 {G : Wd} {l : Launch} {d : Nat} {post : Option Value → VH → Prop} {xp : Nat → VH → Prop} {V : Nat → List (Nat × VT) → List Value → VH → Prop} {XV : Nat → List (Nat × VT) → Nat → VH → Prop} (C : Ctx G l d mX2_begins post xp V XV) {a0 : Nat} {h : VH}
    (f : (kd h a0 = 2) ∧ ((kd h (gR h 40 a0) = 3) ∧ ((kd h a0 = 2) ∧ (∀ h1 : VH, h1 = sI h 48 a0 (gI h 85 (gR h 40 a0)) → ((kd h1 a0 = 2) ∧ ((kd h1 (gR h1 40 a0) = 3) ∧ ((kd h1 a0 = 2) ∧ (∀ h2 : VH, h2 = sI h1 49 a0 (gI h1 86 (gR h1 40 a0)) → (V 24 [(0, vR a0), (1, vI (jI 0))] [] h2))))))))) : V 0 [(0, vR a0)] [] h := by
  obtain ⟨p, e, R, s, m, args, below, meth, c, Q, ⟨hx, hb, hr, hlk, hml, hown, hk, hRr, htb, hnm, hsB, htr, hQ⟩, hV, hX⟩ := C
  rw [hV]
  intro H locs ls hR hL hl
  have hb : c.code = cX2_begins := hb
  have hr : meth.sig.returnType = none := hr
  have hml : c.maxLocals = 3 := hml
  have hown : s.vm.findClass RX2 = some m.cls := hown
  have hl : lv_has ls 3 (lm [(0, vR a0)]) := hl
  have hsz : ls.size = c.maxLocals := hl.1.trans hml.symm
  subst hQ
  refine w_aload_n hx hb dX2_begins_0 rfl (lv_v hl (k := 0) rfl rfl) ?_
  refine w_aload_n hx hb dX2_begins_1 rfl (lv_v hl (k := 0) rfl rfl) ?_
  obtain ⟨f1, f⟩ := f
  refine w_get (i := 1) (k := 0) (v := vr (gR h 40 a0)) hx hb hown hk hR clk_X2 f1 (by decide) (by decide) q704 (fun _ h9 => h9) rfl dX2_begins_2 ?_
  obtain ⟨f1, f⟩ := f
  refine w_getN (i := 2) (k := 5) (v := .int (gI h 85 (gR h 40 a0))) hx hb hown hk hR clk_X3 f1 (by decide) (by decide) q311 (fun _ h9 => h9) rfl dX2_begins_5 ?_
  obtain ⟨f1, f⟩ := f
  refine w_put (i := 1) (k := 8) (c1 := cI (h.1 a0) 48 (gI h 85 (gR h 40 a0))) hx hb hown hk hR hL clk_X2 f1 (by decide) (by decide) q725 (fun _ h9 => h9) rfl ⟨rfl, rfl⟩ rfl (pvI clk_X2 (by decide) rfl rfl) dX2_begins_8 (fun H locs hR hL => ?_)
  obtain ⟨h1, eh1⟩ : ∃ z : VH, z = sI h 48 a0 (gI h 85 (gR h 40 a0)) := ⟨_, rfl⟩
  have hR : Rp G h1 H := by rw [eh1]; exact hR
  have f := f h1 eh1
  refine w_aload_n hx hb dX2_begins_11 rfl (lv_v hl (k := 0) rfl rfl) ?_
  refine w_aload_n hx hb dX2_begins_12 rfl (lv_v hl (k := 0) rfl rfl) ?_
  obtain ⟨f1, f⟩ := f
  refine w_get (i := 1) (k := 0) (v := vr (gR h1 40 a0)) hx hb hown hk hR clk_X2 f1 (by decide) (by decide) q704 (fun _ h9 => h9) rfl dX2_begins_13 ?_
  obtain ⟨f1, f⟩ := f
  refine w_getN (i := 2) (k := 6) (v := .int (gI h1 86 (gR h1 40 a0))) hx hb hown hk hR clk_X3 f1 (by decide) (by decide) q314 (fun _ h9 => h9) rfl dX2_begins_16 ?_
  obtain ⟨f1, f⟩ := f
  refine w_put (i := 1) (k := 9) (c1 := cI (h1.1 a0) 49 (gI h1 86 (gR h1 40 a0))) hx hb hown hk hR hL clk_X2 f1 (by decide) (by decide) q728 (fun _ h9 => h9) rfl ⟨rfl, rfl⟩ rfl (pvI clk_X2 (by decide) rfl rfl) dX2_begins_19 (fun H locs hR hL => ?_)
  obtain ⟨h2, eh2⟩ : ∃ z : VH, z = sI h1 49 a0 (gI h1 86 (gR h1 40 a0)) := ⟨_, rfl⟩
  have hR : Rp G h2 H := by rw [eh2]; exact hR
  have f := f h2 eh2
  refine w_iconst hx hb dX2_begins_22 ?_
  refine w_istore_n (L' := [(1, vI (jI 0)), (0, vR a0)]) hx hb dX2_begins_23 rfl hl (by decide) rfl (fun ls hl => ?_)
  have hsz : ls.size = c.maxLocals := hl.1.trans hml.symm
  exact (hV _ _ _ _).mp f H locs _ hR hL (lv_p hl [1, 0] rfl)
theorem b_X2_begins_24 {G : Wd} {l : Launch} {d : Nat} {post : Option Value → VH → Prop} {xp : Nat → VH → Prop} {V : Nat → List (Nat × VT) → List Value → VH → Prop} {XV : Nat → List (Nat × VT) → Nat → VH → Prop} (C : Ctx G l d mX2_begins post xp V XV) {i1 : Int32} {a0 : Nat} {h : VH}
    (f : (kd h a0 = 2) ∧ ((kd h (gR h 40 a0) = 3) ∧ (((gI h 82 (gR h 40 a0)) ≤ i1 → ((kd h a0 = 2) ∧ ((kd h a0 = 2) ∧ ((kd h (gR h 40 a0) = 3) ∧ (((kd h (gR h 87 (gR h 40 a0)) = 4) ∧ D G l d mJ2_size [vR (gR h 87 (gR h 40 a0))] h (fun v h9 => ∃ x9, v = some (.int x9) ∧ V 98 [(0, vR a0)] [.int x9, .int (gI h 47 a0)] h9) xp) ∨ ((kd h (gR h 87 (gR h 40 a0)) = 9) ∧ D G l d mJ21_size [vR (gR h 87 (gR h 40 a0))] h (fun v h9 => ∃ x9, v = some (.int x9) ∧ V 98 [(0, vR a0)] [.int x9, .int (gI h 47 a0)] h9) xp)))))) ∧ (¬ (gI h 82 (gR h 40 a0)) ≤ i1 → ((kd h a0 = 2) ∧ ((hz h ≤ wC G) ∧ (hs h + 4 ≤ wS G) ∧ (∀ h1 : VH, h1 = al h 9 0 4 → ((hz h) ≠ 0 ∧ D G l d mJ21_init [vR (hz h)] h1 (fun v h2 => v = none ∧ (((kd h2 (gR h 41 a0) = 4) ∧ D G l d mJ2_add [vR (gR h 41 a0), vR (hz h)] h2 (fun v h9 => ∃ x9, v = some (.int x9) ∧ V 51 [(0, vR a0), (1, vI i1)] [.int x9] h9) xp) ∨ ((kd h2 (gR h 41 a0) = 9) ∧ D G l d mJ21_add [vR (gR h 41 a0), vR (hz h)] h2 (fun v h9 => ∃ x9, v = some (.int x9) ∧ V 51 [(0, vR a0), (1, vI i1)] [.int x9] h9) xp))) xp)))))))) : V 24 [(0, vR a0), (1, vI i1)] [] h := by
  obtain ⟨p, e, R, s, m, args, below, meth, c, Q, ⟨hx, hb, hr, hlk, hml, hown, hk, hRr, htb, hnm, hsB, htr, hQ⟩, hV, hX⟩ := C
  rw [hV]
  intro H locs ls hR hL hl
  have hb : c.code = cX2_begins := hb
  have hr : meth.sig.returnType = none := hr
  have hml : c.maxLocals = 3 := hml
  have hown : s.vm.findClass RX2 = some m.cls := hown
  have hl : lv_has ls 3 (lm [(0, vR a0), (1, vI i1)]) := hl
  have hsz : ls.size = c.maxLocals := hl.1.trans hml.symm
  subst hQ
  refine lv_iload_n hx hb dX2_begins_24 rfl (lv_v hl (k := 1) rfl rfl) ?_
  refine w_aload_n hx hb dX2_begins_25 rfl (lv_v hl (k := 0) rfl rfl) ?_
  obtain ⟨f1, f⟩ := f
  refine w_get (i := 1) (k := 0) (v := vr (gR h 40 a0)) hx hb hown hk hR clk_X2 f1 (by decide) (by decide) q704 (fun _ h9 => h9) rfl dX2_begins_26 ?_
  obtain ⟨f1, f⟩ := f
  refine w_getN (i := 2) (k := 2) (v := .int (gI h 82 (gR h 40 a0))) hx hb hown hk hR clk_X3 f1 (by decide) (by decide) q298 (fun _ h9 => h9) rfl dX2_begins_29 ?_
  refine lv_icmp_ge (tgt := 82) hx hb dX2_begins_32 (by decide) (fun c9 => ?_) (fun c9 => ?_)
  · have f := f.1 c9
    refine w_aload_n hx hb dX2_begins_82 rfl (lv_v hl (k := 0) rfl rfl) ?_
    obtain ⟨f1, f⟩ := f
    refine w_get (i := 1) (k := 7) (v := .int (gI h 47 a0)) hx hb hown hk hR clk_X2 f1 (by decide) (by decide) q722 (fun _ h9 => h9) rfl dX2_begins_83 ?_
    refine w_aload_n hx hb dX2_begins_86 rfl (lv_v hl (k := 0) rfl rfl) ?_
    obtain ⟨f1, f⟩ := f
    refine w_get (i := 1) (k := 0) (v := vr (gR h 40 a0)) hx hb hown hk hR clk_X2 f1 (by decide) (by decide) q704 (fun _ h9 => h9) rfl dX2_begins_87 ?_
    obtain ⟨f1, f⟩ := f
    refine w_getN (i := 2) (k := 7) (v := vr (gR h 87 (gR h 40 a0))) hx hb hown hk hR clk_X3 f1 (by decide) (by decide) q317 (fun _ h9 => h9) rfl dX2_begins_90 ?_
    rcases f with f | f
    · exact w_call (mi := mJ2_size) (As := [vR (gR h 87 (gR h 40 a0))]) (rest := [.int (gI h 47 a0)]) (len := 5) hk hR hL hsz hsB htr hRr (cok_F (n := 0) (x := ⟨"java/util/List", "size", "()I"⟩) (i := 3) (C := RJ2) (argsL := []) hx hb hown hk hR f.1 (by decide) rfl ⟨by decide +kernel, by decide +kernel⟩ q2036 q1133 q1132 q1138 q1136 q1134 q1137 q1135 q1139 (by unfold nPar; decide +kernel) rfl dX2_begins_93) f.2 wJ2_size iJ2_size (by decide) (cat_sum _ (Nat.le_of_ble_eq_true rfl)) rfl (fun v h9 H locs hp hR hL => by obtain ⟨z9, rfl, f⟩ := hp; exact (hV _ _ _ _).mp f H locs _ hR hL (lv_p hl [0] rfl)) (fun q h9 H locs hp hR hL => x_out hown hlk hR hL (fun x9 h9 => by rw [htb] at h9; exact absurd h9 List.not_mem_nil) ⟨hp.1, hp.2.1⟩ hp.2.2)
    exact w_call (mi := mJ21_size) (As := [vR (gR h 87 (gR h 40 a0))]) (rest := [.int (gI h 47 a0)]) (len := 5) hk hR hL hsz hsB htr hRr (cok_F (n := 0) (x := ⟨"java/util/List", "size", "()I"⟩) (i := 8) (C := RJ21) (argsL := []) hx hb hown hk hR f.1 (by decide) rfl ⟨by decide +kernel, by decide +kernel⟩ q2036 q1133 q1132 q1144 q1142 q1140 q1143 q1141 q1145 (by unfold nPar; decide +kernel) rfl dX2_begins_93) f.2 wJ21_size iJ21_size (by decide) (cat_sum _ (Nat.le_of_ble_eq_true rfl)) rfl (fun v h9 H locs hp hR hL => by obtain ⟨z9, rfl, f⟩ := hp; exact (hV _ _ _ _).mp f H locs _ hR hL (lv_p hl [0] rfl)) (fun q h9 H locs hp hR hL => x_out hown hlk hR hL (fun x9 h9 => by rw [htb] at h9; exact absurd h9 List.not_mem_nil) ⟨hp.1, hp.2.1⟩ hp.2.2)
  · have f := f.2 c9
    refine w_aload_n hx hb dX2_begins_35 rfl (lv_v hl (k := 0) rfl rfl) ?_
    obtain ⟨f1, f⟩ := f
    refine w_get (i := 1) (k := 1) (v := vr (gR h 41 a0)) hx hb hown hk hR clk_X2 f1 (by decide) (by decide) q708 (fun _ h9 => h9) rfl dX2_begins_36 ?_
    obtain ⟨f1, f2, f⟩ := f
    refine w_new hx hb hown hk hR hL hRr.2.2.1 hRr.2.2.2.1 hsB clk_J21 q677 q678 q174 f1 f2 (fun k hk => by match k, hk with | 0, _ => rfl | 1, _ => rfl | 2, _ => rfl | 3, _ => rfl | k + 4, hk => exact absurd hk (by omega)) (by decide) (by decide) dX2_begins_39 (fun H hR => ?_)
    obtain ⟨h1, eh1⟩ : ∃ z : VH, z = al h 9 0 4 := ⟨_, rfl⟩
    have hR : Rp G h1 H := by rw [eh1]; exact hR
    have f := f h1 eh1
    refine lv_dup hx hb dX2_begins_42 (vr_cat _) ?_
    refine w_call (mi := mJ21_init) (As := [vR (hz h)]) (rest := [vr (hz h), vr (gR h 41 a0)]) (len := 3) hk hR hL hsz hsB htr hRr (cok_I (argsL := []) hx hb hown hk f.1 rfl q679 q680 q681 kJ21_init.1 kJ21_init.2 rfl dX2_begins_43) f.2 wJ21_init iJ21_init (by decide) (cat_sum _ (Nat.le_of_ble_eq_true rfl)) rfl (fun v h2 H locs f hR hL => ?_) (fun q h9 H locs hp hR hL => x_out hown hlk hR hL (fun x9 h9 => by rw [htb] at h9; exact absurd h9 List.not_mem_nil) ⟨hp.1, hp.2.1⟩ hp.2.2)
    obtain ⟨rfl, f⟩ := f
    show Wn p l e R s m args below meth c H locs _ (F0 m 46 ls [vr (hz h), vr (gR h 41 a0)])
    rcases f with f | f
    · exact w_call (mi := mJ2_add) (As := [vR (gR h 41 a0), vR (hz h)]) (rest := []) (len := 5) hk hR hL hsz hsB htr hRr (cok_F (n := 1) (x := ⟨"java/util/List", "add", "(Ljava/lang/Object;)Z"⟩) (i := 3) (C := RJ2) (argsL := [vr (hz h)]) hx hb hown hk hR f.1 (by decide) rfl ⟨by decide +kernel, by decide +kernel⟩ q2030 q1168 q1167 q1172 q1170 q1134 q1171 q1169 q1173 (by unfold nPar; decide +kernel) rfl dX2_begins_46) f.2 wJ2_add iJ2_add (by decide) (cat_sum _ (Nat.le_of_ble_eq_true rfl)) rfl (fun v h9 H locs hp hR hL => by obtain ⟨z9, rfl, f⟩ := hp; exact (hV _ _ _ _).mp f H locs _ hR hL (lv_p hl [0, 1] rfl)) (fun q h9 H locs hp hR hL => x_out hown hlk hR hL (fun x9 h9 => by rw [htb] at h9; exact absurd h9 List.not_mem_nil) ⟨hp.1, hp.2.1⟩ hp.2.2)
    exact w_call (mi := mJ21_add) (As := [vR (gR h 41 a0), vR (hz h)]) (rest := []) (len := 5) hk hR hL hsz hsB htr hRr (cok_F (n := 1) (x := ⟨"java/util/List", "add", "(Ljava/lang/Object;)Z"⟩) (i := 8) (C := RJ21) (argsL := [vr (hz h)]) hx hb hown hk hR f.1 (by decide) rfl ⟨by decide +kernel, by decide +kernel⟩ q2030 q1168 q1167 q1237 q1235 q1140 q1236 q1234 q1238 (by unfold nPar; decide +kernel) rfl dX2_begins_46) f.2 wJ21_add iJ21_add (by decide) (cat_sum _ (Nat.le_of_ble_eq_true rfl)) rfl (fun v h9 H locs hp hR hL => by obtain ⟨z9, rfl, f⟩ := hp; exact (hV _ _ _ _).mp f H locs _ hR hL (lv_p hl [0, 1] rfl)) (fun q h9 H locs hp hR hL => x_out hown hlk hR hL (fun x9 h9 => by rw [htb] at h9; exact absurd h9 List.not_mem_nil) ⟨hp.1, hp.2.1⟩ hp.2.2)
theorem b_X2_begins_51 {G : Wd} {l : Launch} {d : Nat} {post : Option Value → VH → Prop} {xp : Nat → VH → Prop} {V : Nat → List (Nat × VT) → List Value → VH → Prop} {XV : Nat → List (Nat × VT) → Nat → VH → Prop} (C : Ctx G l d mX2_begins post xp V XV) {i1 x0 : Int32} {a0 : Nat} {h : VH}
    (f : V 54 [(0, vR a0), (1, vI i1), (2, vI (jI 0))] [] h) : V 51 [(0, vR a0), (1, vI i1)] [.int x0] h := by
  obtain ⟨p, e, R, s, m, args, below, meth, c, Q, ⟨hx, hb, hr, hlk, hml, hown, hk, hRr, htb, hnm, hsB, htr, hQ⟩, hV, hX⟩ := C
  rw [hV]
  intro H locs ls hR hL hl
  have hb : c.code = cX2_begins := hb
  have hr : meth.sig.returnType = none := hr
  have hml : c.maxLocals = 3 := hml
  have hown : s.vm.findClass RX2 = some m.cls := hown
  have hl : lv_has ls 3 (lm [(0, vR a0), (1, vI i1)]) := hl
  have hsz : ls.size = c.maxLocals := hl.1.trans hml.symm
  subst hQ
  refine lv_pop hx hb dX2_begins_51 rfl ?_
  refine w_iconst hx hb dX2_begins_52 ?_
  refine w_istore_n (L' := [(2, vI (jI 0)), (0, vR a0), (1, vI i1)]) hx hb dX2_begins_53 rfl hl (by decide) rfl (fun ls hl => ?_)
  have hsz : ls.size = c.maxLocals := hl.1.trans hml.symm
  exact (hV _ _ _ _).mp f H locs _ hR hL (lv_p hl [1, 2, 0] rfl)
theorem b_X2_begins_54 {G : Wd} {l : Launch} {d : Nat} {post : Option Value → VH → Prop} {xp : Nat → VH → Prop} {V : Nat → List (Nat × VT) → List Value → VH → Prop} {XV : Nat → List (Nat × VT) → Nat → VH → Prop} (C : Ctx G l d mX2_begins post xp V XV) {i1 i2 : Int32} {a0 : Nat} {h : VH}
    (f : (kd h a0 = 2) ∧ ((kd h (gR h 40 a0) = 3) ∧ (((gI h 83 (gR h 40 a0)) ≤ i2 → (V 24 [(0, vR a0), (1, vI (i1 + (jI 1)))] [] h)) ∧ (¬ (gI h 83 (gR h 40 a0)) ≤ i2 → ((kd h a0 = 2) ∧ D G l d mX2_draws [vR a0, vI i1] h (fun v h1 => v = none ∧ (V 54 [(0, vR a0), (1, vI i1), (2, vI (i2 + (jI 1)))] [] h1)) xp))))) : V 54 [(0, vR a0), (1, vI i1), (2, vI i2)] [] h := by
  obtain ⟨p, e, R, s, m, args, below, meth, c, Q, ⟨hx, hb, hr, hlk, hml, hown, hk, hRr, htb, hnm, hsB, htr, hQ⟩, hV, hX⟩ := C
  rw [hV]
  intro H locs ls hR hL hl
  have hb : c.code = cX2_begins := hb
  have hr : meth.sig.returnType = none := hr
  have hml : c.maxLocals = 3 := hml
  have hown : s.vm.findClass RX2 = some m.cls := hown
  have hl : lv_has ls 3 (lm [(0, vR a0), (1, vI i1), (2, vI i2)]) := hl
  have hsz : ls.size = c.maxLocals := hl.1.trans hml.symm
  subst hQ
  refine lv_iload_n hx hb dX2_begins_54 rfl (lv_v hl (k := 2) rfl rfl) ?_
  refine w_aload_n hx hb dX2_begins_55 rfl (lv_v hl (k := 0) rfl rfl) ?_
  obtain ⟨f1, f⟩ := f
  refine w_get (i := 1) (k := 0) (v := vr (gR h 40 a0)) hx hb hown hk hR clk_X2 f1 (by decide) (by decide) q704 (fun _ h9 => h9) rfl dX2_begins_56 ?_
  obtain ⟨f1, f⟩ := f
  refine w_getN (i := 2) (k := 3) (v := .int (gI h 83 (gR h 40 a0))) hx hb hown hk hR clk_X3 f1 (by decide) (by decide) q303 (fun _ h9 => h9) rfl dX2_begins_59 ?_
  refine lv_icmp_ge (tgt := 76) hx hb dX2_begins_62 (by decide) (fun c9 => ?_) (fun c9 => ?_)
  · have f := f.1 c9
    refine w_iinc (L' := [(1, vI (i1 + (jI 1))), (0, vR a0), (2, vI i2)]) hx hb dX2_begins_76 hl (k := 1) rfl (by decide) rfl (fun ls hl => ?_)
    have hsz : ls.size = c.maxLocals := hl.1.trans hml.symm
    refine lv_goto (tgt := 24) hx hb dX2_begins_79 (by decide) ?_
    exact (hV _ _ _ _).mp f H locs _ hR hL (lv_p hl [1, 0] rfl)
  · have f := f.2 c9
    refine w_aload_n hx hb dX2_begins_65 rfl (lv_v hl (k := 0) rfl rfl) ?_
    refine lv_iload_n hx hb dX2_begins_66 rfl (lv_v hl (k := 1) rfl rfl) ?_
    refine w_call (mi := mX2_draws) (As := [vR a0, vI i1]) (rest := []) (len := 3) hk hR hL hsz hsB htr hRr (cok_V (i := 1) (C := RX2) (argsL := [.int i1]) hx hb hown hk hR f.1 (by decide) rfl q2031 q2033 qs35 q2034 kX2_draws.1 kX2_draws.2 rfl dX2_begins_67) f.2 wX2_draws iX2_draws (by decide) (cat_sum _ (Nat.le_of_ble_eq_true rfl)) rfl (fun v h1 H locs f hR hL => ?_) (fun q h9 H locs hp hR hL => x_out hown hlk hR hL (fun x9 h9 => by rw [htb] at h9; exact absurd h9 List.not_mem_nil) ⟨hp.1, hp.2.1⟩ hp.2.2)
    obtain ⟨rfl, f⟩ := f
    show Wn p l e R s m args below meth c H locs _ (F0 m 70 ls [])
    refine w_iinc (L' := [(2, vI (i2 + (jI 1))), (0, vR a0), (1, vI i1)]) hx hb dX2_begins_70 hl (k := 2) rfl (by decide) rfl (fun ls hl => ?_)
    have hsz : ls.size = c.maxLocals := hl.1.trans hml.symm
    refine lv_goto (tgt := 54) hx hb dX2_begins_73 (by decide) ?_
    exact (hV _ _ _ _).mp f H locs _ hR hL (lv_p hl [1, 2, 0] rfl)
theorem b_X2_begins_98 {G : Wd} {l : Launch} {d : Nat} {post : Option Value → VH → Prop} {xp : Nat → VH → Prop} {V : Nat → List (Nat × VT) → List Value → VH → Prop} {XV : Nat → List (Nat × VT) → Nat → VH → Prop} (C : Ctx G l d mX2_begins post xp V XV) {x0 x1 : Int32} {a0 : Nat} {h : VH}
    (f : (¬ x0 = x1 → (post none h)) ∧ (x0 = x1 → ((kd h a0 = 2) ∧ ((kd h (gR h 40 a0) = 3) ∧ ((kd h a0 = 2) ∧ (∀ h1 : VH, h1 = sI h 52 a0 (gI h 82 (gR h 40 a0)) → (post none h1))))))) : V 98 [(0, vR a0)] [.int x1, .int x0] h := by
  obtain ⟨p, e, R, s, m, args, below, meth, c, Q, ⟨hx, hb, hr, hlk, hml, hown, hk, hRr, htb, hnm, hsB, htr, hQ⟩, hV, hX⟩ := C
  rw [hV]
  intro H locs ls hR hL hl
  have hb : c.code = cX2_begins := hb
  have hr : meth.sig.returnType = none := hr
  have hml : c.maxLocals = 3 := hml
  have hown : s.vm.findClass RX2 = some m.cls := hown
  have hl : lv_has ls 3 (lm [(0, vR a0)]) := hl
  have hsz : ls.size = c.maxLocals := hl.1.trans hml.symm
  subst hQ
  refine lv_icmp_ne (tgt := 112) hx hb dX2_begins_98 (by decide) (fun c9 => ?_) (fun c9 => ?_)
  · have f := f.1 c9
    exact w_vret hx hb hr hlk hR hL dX2_begins_112 f
  · have f := f.2 c9
    refine w_aload_n hx hb dX2_begins_101 rfl (lv_v hl (k := 0) rfl rfl) ?_
    refine w_aload_n hx hb dX2_begins_102 rfl (lv_v hl (k := 0) rfl rfl) ?_
    obtain ⟨f1, f⟩ := f
    refine w_get (i := 1) (k := 0) (v := vr (gR h 40 a0)) hx hb hown hk hR clk_X2 f1 (by decide) (by decide) q704 (fun _ h9 => h9) rfl dX2_begins_103 ?_
    obtain ⟨f1, f⟩ := f
    refine w_getN (i := 2) (k := 2) (v := .int (gI h 82 (gR h 40 a0))) hx hb hown hk hR clk_X3 f1 (by decide) (by decide) q298 (fun _ h9 => h9) rfl dX2_begins_106 ?_
    obtain ⟨f1, f⟩ := f
    refine w_put (i := 1) (k := 12) (c1 := cI (h.1 a0) 52 (gI h 82 (gR h 40 a0))) hx hb hown hk hR hL clk_X2 f1 (by decide) (by decide) q736 (fun _ h9 => h9) rfl ⟨rfl, rfl⟩ rfl (pvI clk_X2 (by decide) rfl rfl) dX2_begins_109 (fun H locs hR hL => ?_)
    obtain ⟨h1, eh1⟩ : ∃ z : VH, z = sI h 52 a0 (gI h 82 (gR h 40 a0)) := ⟨_, rfl⟩
    have hR : Rp G h1 H := by rw [eh1]; exact hR
    have f := f h1 eh1
    exact w_vret hx hb hr hlk hR hL dX2_begins_112 f
theorem b_X2_canBe_0 {G : Wd} {l : Launch} {d : Nat} {post : Option Value → VH → Prop} {xp : Nat → VH → Prop} {V : Nat → List (Nat × VT) → List Value → VH → Prop} {XV : Nat → List (Nat × VT) → Nat → VH → Prop} (C : Ctx G l d mX2_canBe post xp V XV) {i1 i2 i3 : Int32} {a0 : Nat} {h : VH}
    (f : (kd h a0 = 2) ∧ ((isArrR h (gR h 45 a0)) ∧ (vp_in i2 (ln h (gR h 45 a0))) ∧ ((kd h (gR h (i2).toNatClampNeg (gR h 45 a0)) = 200 ∨ kd h (gR h (i2).toNatClampNeg (gR h 45 a0)) = 300) ∧ (vp_in i3 (ln h (gR h (i2).toNatClampNeg (gR h 45 a0)))) ∧ ((kd h a0 = 2) ∧ ((kd h (gR h 43 a0) = 200 ∨ kd h (gR h 43 a0) = 300) ∧ (vp_in i2 (ln h (gR h 43 a0))) ∧ (((gI h (i2).toNatClampNeg (gR h 43 a0)) < i3 → ((kd h a0 = 2) ∧ D G l d mX2_inHands [vR a0, vI i2, vI i3, vI i1] h (fun v h1 => ∃ ri1, v = some (.int ri1) ∧ ((kd h1 a0 = 2) ∧ ((kd h1 (gR h1 40 a0) = 3) ∧ D G l d mX3_copiesOf [vR (gR h1 40 a0), vI i2, vI i3] h1 (fun v h2 => ∃ ri2, v = some (.int ri2) ∧ ((ri2 ≤ (((gI h (i3).toNatClampNeg (gR h (i2).toNatClampNeg (gR h 45 a0))) + (jI 0)) + ri1) → (post (some (.int (jI 0))) h2)) ∧ (¬ ri2 ≤ (((gI h (i3).toNatClampNeg (gR h (i2).toNatClampNeg (gR h 45 a0))) + (jI 0)) + ri1) → (post (some (.int (jI 1))) h2)))) xp))) xp)) ∧ (¬ (gI h (i2).toNatClampNeg (gR h 43 a0)) < i3 → ((kd h a0 = 2) ∧ D G l d mX2_inHands [vR a0, vI i2, vI i3, vI i1] h (fun v h3 => ∃ ri3, v = some (.int ri3) ∧ ((kd h3 a0 = 2) ∧ ((kd h3 (gR h3 40 a0) = 3) ∧ D G l d mX3_copiesOf [vR (gR h3 40 a0), vI i2, vI i3] h3 (fun v h4 => ∃ ri4, v = some (.int ri4) ∧ ((ri4 ≤ (((gI h (i3).toNatClampNeg (gR h (i2).toNatClampNeg (gR h 45 a0))) + (jI 1)) + ri3) → (post (some (.int (jI 0))) h4)) ∧ (¬ ri4 ≤ (((gI h (i3).toNatClampNeg (gR h (i2).toNatClampNeg (gR h 45 a0))) + (jI 1)) + ri3) → (post (some (.int (jI 1))) h4)))) xp))) xp)))))))) : V 0 [(0, vR a0), (1, vI i1), (2, vI i2), (3, vI i3)] [] h := by
  obtain ⟨p, e, R, s, m, args, below, meth, c, Q, ⟨hx, hb, hr, hlk, hml, hown, hk, hRr, htb, hnm, hsB, htr, hQ⟩, hV, hX⟩ := C
  rw [hV]
  intro H locs ls hR hL hl
  have hb : c.code = cX2_canBe := hb
  have hr : meth.sig.returnType = some .boolean := hr
  have hml : c.maxLocals = 4 := hml
  have hown : s.vm.findClass RX2 = some m.cls := hown
  have hl : lv_has ls 4 (lm [(0, vR a0), (1, vI i1), (2, vI i2), (3, vI i3)]) := hl
  have hsz : ls.size = c.maxLocals := hl.1.trans hml.symm
  subst hQ
  refine w_aload_n hx hb dX2_canBe_0 rfl (lv_v hl (k := 0) rfl rfl) ?_
  obtain ⟨f1, f⟩ := f
  refine w_get (i := 1) (k := 5) (v := vr (gR h 45 a0)) hx hb hown hk hR clk_X2 f1 (by decide) (by decide) q718 (fun _ h9 => h9) rfl dX2_canBe_1 ?_
  refine lv_iload_n hx hb dX2_canBe_4 rfl (lv_v hl (k := 2) rfl rfl) ?_
  obtain ⟨f1, f2, f⟩ := f
  obtain ⟨t9, ty9, g1, g2, g3, g4⟩ := f1.use
  refine w_aald hx hb hk hR g1 g2 g3 g4 f2 dX2_canBe_5 ?_
  refine lv_iload_n hx hb dX2_canBe_6 rfl (lv_v hl (k := 3) rfl rfl) ?_
  obtain ⟨f1, f2, f⟩ := f
  refine or_k f1 (fun q9 kk => w_iald (t := 0) hx hb hk hR q9 (by decide) rfl f2 dX2_canBe_7 kk) (fun q9 kk => w_iald (t := 100) hx hb hk hR q9 (by decide) rfl f2 dX2_canBe_7 kk) ?_
  refine w_aload_n hx hb dX2_canBe_8 rfl (lv_v hl (k := 0) rfl rfl) ?_
  obtain ⟨f1, f⟩ := f
  refine w_get (i := 1) (k := 3) (v := vr (gR h 43 a0)) hx hb hown hk hR clk_X2 f1 (by decide) (by decide) q713 (fun _ h9 => h9) rfl dX2_canBe_9 ?_
  refine lv_iload_n hx hb dX2_canBe_12 rfl (lv_v hl (k := 2) rfl rfl) ?_
  obtain ⟨f1, f2, f⟩ := f
  refine or_k f1 (fun q9 kk => w_iald (t := 0) hx hb hk hR q9 (by decide) rfl f2 dX2_canBe_13 kk) (fun q9 kk => w_iald (t := 100) hx hb hk hR q9 (by decide) rfl f2 dX2_canBe_13 kk) ?_
  refine lv_iload_n hx hb dX2_canBe_14 rfl (lv_v hl (k := 3) rfl rfl) ?_
  refine lv_icmp_lt (tgt := 22) hx hb dX2_canBe_15 (by decide) (fun c9 => ?_) (fun c9 => ?_)
  · have f := f.1 c9
    refine w_iconst hx hb dX2_canBe_22 ?_
    refine lv_iadd hx hb dX2_canBe_23 ?_
    refine w_aload_n hx hb dX2_canBe_24 rfl (lv_v hl (k := 0) rfl rfl) ?_
    refine lv_iload_n hx hb dX2_canBe_25 rfl (lv_v hl (k := 2) rfl rfl) ?_
    refine lv_iload_n hx hb dX2_canBe_26 rfl (lv_v hl (k := 3) rfl rfl) ?_
    refine lv_iload_n hx hb dX2_canBe_27 rfl (lv_v hl (k := 1) rfl rfl) ?_
    refine w_call (mi := mX2_inHands) (As := [vR a0, vI i2, vI i3, vI i1]) (rest := [.int ((gI h (i3).toNatClampNeg (gR h (i2).toNatClampNeg (gR h 45 a0))) + (jI 0))]) (len := 3) hk hR hL hsz hsB htr hRr (cok_V (i := 1) (C := RX2) (argsL := [.int i2, .int i3, .int i1]) hx hb hown hk hR f.1 (by decide) rfl q2243 q2244 q2245 q2246 kX2_inHands.1 kX2_inHands.2 rfl dX2_canBe_28) f.2 wX2_inHands iX2_inHands (by decide) (cat_sum _ (Nat.le_of_ble_eq_true rfl)) rfl (fun v h1 H locs f hR hL => ?_) (fun q h9 H locs hp hR hL => x_out hown hlk hR hL (fun x9 h9 => by rw [htb] at h9; exact absurd h9 List.not_mem_nil) ⟨hp.1, hp.2.1⟩ hp.2.2)
    obtain ⟨ri1, rfl, f⟩ := f
    show Wn p l e R s m args below meth c H locs _ (F0 m 31 ls [.int ri1, .int ((gI h (i3).toNatClampNeg (gR h (i2).toNatClampNeg (gR h 45 a0))) + (jI 0))])
    refine lv_iadd hx hb dX2_canBe_31 ?_
    refine w_aload_n hx hb dX2_canBe_32 rfl (lv_v hl (k := 0) rfl rfl) ?_
    obtain ⟨f1, f⟩ := f
    refine w_get (i := 1) (k := 0) (v := vr (gR h1 40 a0)) hx hb hown hk hR clk_X2 f1 (by decide) (by decide) q704 (fun _ h9 => h9) rfl dX2_canBe_33 ?_
    refine lv_iload_n hx hb dX2_canBe_36 rfl (lv_v hl (k := 2) rfl rfl) ?_
    refine lv_iload_n hx hb dX2_canBe_37 rfl (lv_v hl (k := 3) rfl rfl) ?_
    refine w_call (mi := mX3_copiesOf) (As := [vR (gR h1 40 a0), vI i2, vI i3]) (rest := [.int (((gI h (i3).toNatClampNeg (gR h (i2).toNatClampNeg (gR h 45 a0))) + (jI 0)) + ri1)]) (len := 3) hk hR hL hsz hsB htr hRr (cok_V (i := 2) (C := RX3) (argsL := [.int i2, .int i3]) hx hb hown hk hR f.1 (by decide) rfl q2249 q2250 q2251 q2252 kX3_copiesOf.1 kX3_copiesOf.2 rfl dX2_canBe_38) f.2 wX3_copiesOf iX3_copiesOf (by decide) (cat_sum _ (Nat.le_of_ble_eq_true rfl)) rfl (fun v h2 H locs f hR hL => ?_) (fun q h9 H locs hp hR hL => x_out hown hlk hR hL (fun x9 h9 => by rw [htb] at h9; exact absurd h9 List.not_mem_nil) ⟨hp.1, hp.2.1⟩ hp.2.2)
    obtain ⟨ri2, rfl, f⟩ := f
    show Wn p l e R s m args below meth c H locs _ (F0 m 41 ls [.int ri2, .int (((gI h (i3).toNatClampNeg (gR h (i2).toNatClampNeg (gR h 45 a0))) + (jI 0)) + ri1)])
    refine lv_icmp_ge (tgt := 48) hx hb dX2_canBe_41 (by decide) (fun c9 => ?_) (fun c9 => ?_)
    · have f := f.1 c9
      refine w_iconst hx hb dX2_canBe_48 ?_
      exact w_zret hx hb hr hlk hR hL dX2_canBe_49 rfl f
    · have f := f.2 c9
      refine w_iconst hx hb dX2_canBe_44 ?_
      refine lv_goto (tgt := 49) hx hb dX2_canBe_45 (by decide) ?_
      exact w_zret hx hb hr hlk hR hL dX2_canBe_49 rfl f
  · have f := f.2 c9
    refine w_iconst hx hb dX2_canBe_18 ?_
    refine lv_goto (tgt := 23) hx hb dX2_canBe_19 (by decide) ?_
    refine lv_iadd hx hb dX2_canBe_23 ?_
    refine w_aload_n hx hb dX2_canBe_24 rfl (lv_v hl (k := 0) rfl rfl) ?_
    refine lv_iload_n hx hb dX2_canBe_25 rfl (lv_v hl (k := 2) rfl rfl) ?_
    refine lv_iload_n hx hb dX2_canBe_26 rfl (lv_v hl (k := 3) rfl rfl) ?_
    refine lv_iload_n hx hb dX2_canBe_27 rfl (lv_v hl (k := 1) rfl rfl) ?_
    refine w_call (mi := mX2_inHands) (As := [vR a0, vI i2, vI i3, vI i1]) (rest := [.int ((gI h (i3).toNatClampNeg (gR h (i2).toNatClampNeg (gR h 45 a0))) + (jI 1))]) (len := 3) hk hR hL hsz hsB htr hRr (cok_V (i := 1) (C := RX2) (argsL := [.int i2, .int i3, .int i1]) hx hb hown hk hR f.1 (by decide) rfl q2243 q2244 q2245 q2246 kX2_inHands.1 kX2_inHands.2 rfl dX2_canBe_28) f.2 wX2_inHands iX2_inHands (by decide) (cat_sum _ (Nat.le_of_ble_eq_true rfl)) rfl (fun v h3 H locs f hR hL => ?_) (fun q h9 H locs hp hR hL => x_out hown hlk hR hL (fun x9 h9 => by rw [htb] at h9; exact absurd h9 List.not_mem_nil) ⟨hp.1, hp.2.1⟩ hp.2.2)
    obtain ⟨ri3, rfl, f⟩ := f
    show Wn p l e R s m args below meth c H locs _ (F0 m 31 ls [.int ri3, .int ((gI h (i3).toNatClampNeg (gR h (i2).toNatClampNeg (gR h 45 a0))) + (jI 1))])
    refine lv_iadd hx hb dX2_canBe_31 ?_
    refine w_aload_n hx hb dX2_canBe_32 rfl (lv_v hl (k := 0) rfl rfl) ?_
    obtain ⟨f1, f⟩ := f
    refine w_get (i := 1) (k := 0) (v := vr (gR h3 40 a0)) hx hb hown hk hR clk_X2 f1 (by decide) (by decide) q704 (fun _ h9 => h9) rfl dX2_canBe_33 ?_
    refine lv_iload_n hx hb dX2_canBe_36 rfl (lv_v hl (k := 2) rfl rfl) ?_
    refine lv_iload_n hx hb dX2_canBe_37 rfl (lv_v hl (k := 3) rfl rfl) ?_
    refine w_call (mi := mX3_copiesOf) (As := [vR (gR h3 40 a0), vI i2, vI i3]) (rest := [.int (((gI h (i3).toNatClampNeg (gR h (i2).toNatClampNeg (gR h 45 a0))) + (jI 1)) + ri3)]) (len := 3) hk hR hL hsz hsB htr hRr (cok_V (i := 2) (C := RX3) (argsL := [.int i2, .int i3]) hx hb hown hk hR f.1 (by decide) rfl q2249 q2250 q2251 q2252 kX3_copiesOf.1 kX3_copiesOf.2 rfl dX2_canBe_38) f.2 wX3_copiesOf iX3_copiesOf (by decide) (cat_sum _ (Nat.le_of_ble_eq_true rfl)) rfl (fun v h4 H locs f hR hL => ?_) (fun q h9 H locs hp hR hL => x_out hown hlk hR hL (fun x9 h9 => by rw [htb] at h9; exact absurd h9 List.not_mem_nil) ⟨hp.1, hp.2.1⟩ hp.2.2)
    obtain ⟨ri4, rfl, f⟩ := f
    show Wn p l e R s m args below meth c H locs _ (F0 m 41 ls [.int ri4, .int (((gI h (i3).toNatClampNeg (gR h (i2).toNatClampNeg (gR h 45 a0))) + (jI 1)) + ri3)])
    refine lv_icmp_ge (tgt := 48) hx hb dX2_canBe_41 (by decide) (fun c9 => ?_) (fun c9 => ?_)
    · have f := f.1 c9
      refine w_iconst hx hb dX2_canBe_48 ?_
      exact w_zret hx hb hr hlk hR hL dX2_canBe_49 rfl f
    · have f := f.2 c9
      refine w_iconst hx hb dX2_canBe_44 ?_
      refine lv_goto (tgt := 49) hx hb dX2_canBe_45 (by decide) ?_
      exact w_zret hx hb hr hlk hR hL dX2_canBe_49 rfl f
theorem t_X2_canBe {G : Wd} {l : Launch} {d : Nat} {post : Option Value → VH → Prop} {xp : Nat → VH → Prop} {i1 i2 i3 : Int32} {a0 : Nat} {h : VH} (hd : 9 ≤ d)
    (f : (kd h a0 = 2) ∧ ((isArrR h (gR h 45 a0)) ∧ (vp_in i2 (ln h (gR h 45 a0))) ∧ ((kd h (gR h (i2).toNatClampNeg (gR h 45 a0)) = 200 ∨ kd h (gR h (i2).toNatClampNeg (gR h 45 a0)) = 300) ∧ (vp_in i3 (ln h (gR h (i2).toNatClampNeg (gR h 45 a0)))) ∧ ((kd h a0 = 2) ∧ ((kd h (gR h 43 a0) = 200 ∨ kd h (gR h 43 a0) = 300) ∧ (vp_in i2 (ln h (gR h 43 a0))) ∧ (((gI h (i2).toNatClampNeg (gR h 43 a0)) < i3 → ((kd h a0 = 2) ∧ D G l (d - 1) mX2_inHands [vR a0, vI i2, vI i3, vI i1] h (fun v h1 => ∃ ri1, v = some (.int ri1) ∧ ((kd h1 a0 = 2) ∧ ((kd h1 (gR h1 40 a0) = 3) ∧ D G l (d - 1) mX3_copiesOf [vR (gR h1 40 a0), vI i2, vI i3] h1 (fun v h2 => ∃ ri2, v = some (.int ri2) ∧ ((ri2 ≤ (((gI h (i3).toNatClampNeg (gR h (i2).toNatClampNeg (gR h 45 a0))) + (jI 0)) + ri1) → (post (some (.int (jI 0))) h2)) ∧ (¬ ri2 ≤ (((gI h (i3).toNatClampNeg (gR h (i2).toNatClampNeg (gR h 45 a0))) + (jI 0)) + ri1) → (post (some (.int (jI 1))) h2)))) xp))) xp)) ∧ (¬ (gI h (i2).toNatClampNeg (gR h 43 a0)) < i3 → ((kd h a0 = 2) ∧ D G l (d - 1) mX2_inHands [vR a0, vI i2, vI i3, vI i1] h (fun v h3 => ∃ ri3, v = some (.int ri3) ∧ ((kd h3 a0 = 2) ∧ ((kd h3 (gR h3 40 a0) = 3) ∧ D G l (d - 1) mX3_copiesOf [vR (gR h3 40 a0), vI i2, vI i3] h3 (fun v h4 => ∃ ri4, v = some (.int ri4) ∧ ((ri4 ≤ (((gI h (i3).toNatClampNeg (gR h (i2).toNatClampNeg (gR h 45 a0))) + (jI 1)) + ri3) → (post (some (.int (jI 0))) h4)) ∧ (¬ ri4 ≤ (((gI h (i3).toNatClampNeg (gR h (i2).toNatClampNeg (gR h 45 a0))) + (jI 1)) + ri3) → (post (some (.int (jI 1))) h4)))) xp))) xp)))))))) : D G l d mX2_canBe [vR a0, vI i1, vI i2, vI i3] h post xp := D_in hd rfl rfl fun V XV C => b_X2_canBe_0 C f
theorem b_X2_canHint_0 {G : Wd} {l : Launch} {d : Nat} {post : Option Value → VH → Prop} {xp : Nat → VH → Prop} {V : Nat → List (Nat × VT) → List Value → VH → Prop} {XV : Nat → List (Nat × VT) → Nat → VH → Prop} (C : Ctx G l d mX2_canHint post xp V XV) {i1 i2 i3 : Int32} {a0 : Nat} {h : VH}
    (f : (kd h a0 = 2) ∧ (((gI h 48 a0) ≤ 0 → (post (some (.int (jI 0))) h)) ∧ (¬ (gI h 48 a0) ≤ 0 → ((kd h a0 = 2) ∧ ((isArrR h (gR h 46 a0)) ∧ (vp_in i2 (ln h (gR h 46 a0))) ∧ ((kd h (gR h (i2).toNatClampNeg (gR h 46 a0)) = 200 ∨ kd h (gR h (i2).toNatClampNeg (gR h 46 a0)) = 300) ∧ (vp_in i3 (ln h (gR h (i2).toNatClampNeg (gR h 46 a0)))) ∧ (((gI h (i3).toNatClampNeg (gR h (i2).toNatClampNeg (gR h 46 a0))) ≤ 0 → (post (some (.int (jI 0))) h)) ∧ (¬ (gI h (i3).toNatClampNeg (gR h (i2).toNatClampNeg (gR h 46 a0))) ≤ 0 → ((kd h a0 = 2) ∧ D G l d mX2_touches [vR a0, vI i1, vI i2, vI i3] h (fun v h1 => ∃ ri1, v = some (.int ri1) ∧ ((ri1 = 0 → (post (some (.int (jI 0))) h1)) ∧ (¬ ri1 = 0 → (post (some (.int (jI 1))) h1)))) xp))))))))) : V 0 [(0, vR a0), (1, vI i1), (2, vI i2), (3, vI i3)] [] h := by
  obtain ⟨p, e, R, s, m, args, below, meth, c, Q, ⟨hx, hb, hr, hlk, hml, hown, hk, hRr, htb, hnm, hsB, htr, hQ⟩, hV, hX⟩ := C
  rw [hV]
  intro H locs ls hR hL hl
  have hb : c.code = cX2_canHint := hb
  have hr : meth.sig.returnType = some .boolean := hr
  have hml : c.maxLocals = 4 := hml
  have hown : s.vm.findClass RX2 = some m.cls := hown
  have hl : lv_has ls 4 (lm [(0, vR a0), (1, vI i1), (2, vI i2), (3, vI i3)]) := hl
  have hsz : ls.size = c.maxLocals := hl.1.trans hml.symm
  subst hQ
  refine w_aload_n hx hb dX2_canHint_0 rfl (lv_v hl (k := 0) rfl rfl) ?_
  obtain ⟨f1, f⟩ := f
  refine w_get (i := 1) (k := 8) (v := .int (gI h 48 a0)) hx hb hown hk hR clk_X2 f1 (by decide) (by decide) q725 (fun _ h9 => h9) rfl dX2_canHint_1 ?_
  refine lv_if_le (tgt := 32) hx hb dX2_canHint_4 (by decide) (fun c9 => ?_) (fun c9 => ?_)
  · have f := f.1 c9
    refine w_iconst hx hb dX2_canHint_32 ?_
    exact w_zret hx hb hr hlk hR hL dX2_canHint_33 rfl f
  · have f := f.2 c9
    refine w_aload_n hx hb dX2_canHint_7 rfl (lv_v hl (k := 0) rfl rfl) ?_
    obtain ⟨f1, f⟩ := f
    refine w_get (i := 1) (k := 6) (v := vr (gR h 46 a0)) hx hb hown hk hR clk_X2 f1 (by decide) (by decide) q720 (fun _ h9 => h9) rfl dX2_canHint_8 ?_
    refine lv_iload_n hx hb dX2_canHint_11 rfl (lv_v hl (k := 2) rfl rfl) ?_
    obtain ⟨f1, f2, f⟩ := f
    obtain ⟨t9, ty9, g1, g2, g3, g4⟩ := f1.use
    refine w_aald hx hb hk hR g1 g2 g3 g4 f2 dX2_canHint_12 ?_
    refine lv_iload_n hx hb dX2_canHint_13 rfl (lv_v hl (k := 3) rfl rfl) ?_
    obtain ⟨f1, f2, f⟩ := f
    refine or_k f1 (fun q9 kk => w_iald (t := 0) hx hb hk hR q9 (by decide) rfl f2 dX2_canHint_14 kk) (fun q9 kk => w_iald (t := 100) hx hb hk hR q9 (by decide) rfl f2 dX2_canHint_14 kk) ?_
    refine lv_if_le (tgt := 32) hx hb dX2_canHint_15 (by decide) (fun c9 => ?_) (fun c9 => ?_)
    · have f := f.1 c9
      refine w_iconst hx hb dX2_canHint_32 ?_
      exact w_zret hx hb hr hlk hR hL dX2_canHint_33 rfl f
    · have f := f.2 c9
      refine w_aload_n hx hb dX2_canHint_18 rfl (lv_v hl (k := 0) rfl rfl) ?_
      refine lv_iload_n hx hb dX2_canHint_19 rfl (lv_v hl (k := 1) rfl rfl) ?_
      refine lv_iload_n hx hb dX2_canHint_20 rfl (lv_v hl (k := 2) rfl rfl) ?_
      refine lv_iload_n hx hb dX2_canHint_21 rfl (lv_v hl (k := 3) rfl rfl) ?_
      refine w_call (mi := mX2_touches) (As := [vR a0, vI i1, vI i2, vI i3]) (rest := []) (len := 3) hk hR hL hsz hsB htr hRr (cok_V (i := 1) (C := RX2) (argsL := [.int i1, .int i2, .int i3]) hx hb hown hk hR f.1 (by decide) rfl q1600 q1601 q1602 q1603 kX2_touches.1 kX2_touches.2 rfl dX2_canHint_22) f.2 wX2_touches iX2_touches (by decide) (cat_sum _ (Nat.le_of_ble_eq_true rfl)) rfl (fun v h1 H locs f hR hL => ?_) (fun q h9 H locs hp hR hL => x_out hown hlk hR hL (fun x9 h9 => by rw [htb] at h9; exact absurd h9 List.not_mem_nil) ⟨hp.1, hp.2.1⟩ hp.2.2)
      obtain ⟨ri1, rfl, f⟩ := f
      show Wn p l e R s m args below meth c H locs _ (F0 m 25 ls [.int ri1])
      refine lv_if_eq (tgt := 32) hx hb dX2_canHint_25 (by decide) (fun c9 => ?_) (fun c9 => ?_)
      · have f := f.1 c9
        refine w_iconst hx hb dX2_canHint_32 ?_
        exact w_zret hx hb hr hlk hR hL dX2_canHint_33 rfl f
      · have f := f.2 c9
        refine w_iconst hx hb dX2_canHint_28 ?_
        refine lv_goto (tgt := 33) hx hb dX2_canHint_29 (by decide) ?_
        exact w_zret hx hb hr hlk hR hL dX2_canHint_33 rfl f
theorem t_X2_canHint {G : Wd} {l : Launch} {d : Nat} {post : Option Value → VH → Prop} {xp : Nat → VH → Prop} {i1 i2 i3 : Int32} {a0 : Nat} {h : VH} (hd : 9 ≤ d)
    (f : (kd h a0 = 2) ∧ (((gI h 48 a0) ≤ 0 → (post (some (.int (jI 0))) h)) ∧ (¬ (gI h 48 a0) ≤ 0 → ((kd h a0 = 2) ∧ ((isArrR h (gR h 46 a0)) ∧ (vp_in i2 (ln h (gR h 46 a0))) ∧ ((kd h (gR h (i2).toNatClampNeg (gR h 46 a0)) = 200 ∨ kd h (gR h (i2).toNatClampNeg (gR h 46 a0)) = 300) ∧ (vp_in i3 (ln h (gR h (i2).toNatClampNeg (gR h 46 a0)))) ∧ (((gI h (i3).toNatClampNeg (gR h (i2).toNatClampNeg (gR h 46 a0))) ≤ 0 → (post (some (.int (jI 0))) h)) ∧ (¬ (gI h (i3).toNatClampNeg (gR h (i2).toNatClampNeg (gR h 46 a0))) ≤ 0 → ((kd h a0 = 2) ∧ D G l (d - 1) mX2_touches [vR a0, vI i1, vI i2, vI i3] h (fun v h1 => ∃ ri1, v = some (.int ri1) ∧ ((ri1 = 0 → (post (some (.int (jI 0))) h1)) ∧ (¬ ri1 = 0 → (post (some (.int (jI 1))) h1)))) xp))))))))) : D G l d mX2_canHint [vR a0, vI i1, vI i2, vI i3] h post xp := D_in hd rfl rfl fun V XV C => b_X2_canHint_0 C f
theorem b_X2_canPlay_0 {G : Wd} {l : Launch} {d : Nat} {post : Option Value → VH → Prop} {xp : Nat → VH → Prop} {V : Nat → List (Nat × VT) → List Value → VH → Prop} {XV : Nat → List (Nat × VT) → Nat → VH → Prop} (C : Ctx G l d mX2_canPlay post xp V XV) {i1 i2 : Int32} {a0 : Nat} {h : VH}
    (f : (kd h a0 = 2) ∧ ((kd h (gR h 43 a0) = 200 ∨ kd h (gR h 43 a0) = 300) ∧ (vp_in i1 (ln h (gR h 43 a0))) ∧ ((¬ ((gI h (i1).toNatClampNeg (gR h 43 a0)) + (jI 1)) = i2 → (post (some (.int (jI 0))) h)) ∧ (((gI h (i1).toNatClampNeg (gR h 43 a0)) + (jI 1)) = i2 → (post (some (.int (jI 1))) h))))) : V 0 [(0, vR a0), (1, vI i1), (2, vI i2)] [] h := by
  obtain ⟨p, e, R, s, m, args, below, meth, c, Q, ⟨hx, hb, hr, hlk, hml, hown, hk, hRr, htb, hnm, hsB, htr, hQ⟩, hV, hX⟩ := C
  rw [hV]
  intro H locs ls hR hL hl
  have hb : c.code = cX2_canPlay := hb
  have hr : meth.sig.returnType = some .boolean := hr
  have hml : c.maxLocals = 3 := hml
  have hown : s.vm.findClass RX2 = some m.cls := hown
  have hl : lv_has ls 3 (lm [(0, vR a0), (1, vI i1), (2, vI i2)]) := hl
  have hsz : ls.size = c.maxLocals := hl.1.trans hml.symm
  subst hQ
  refine w_aload_n hx hb dX2_canPlay_0 rfl (lv_v hl (k := 0) rfl rfl) ?_
  obtain ⟨f1, f⟩ := f
  refine w_get (i := 1) (k := 3) (v := vr (gR h 43 a0)) hx hb hown hk hR clk_X2 f1 (by decide) (by decide) q713 (fun _ h9 => h9) rfl dX2_canPlay_1 ?_
  refine lv_iload_n hx hb dX2_canPlay_4 rfl (lv_v hl (k := 1) rfl rfl) ?_
  obtain ⟨f1, f2, f⟩ := f
  refine or_k f1 (fun q9 kk => w_iald (t := 0) hx hb hk hR q9 (by decide) rfl f2 dX2_canPlay_5 kk) (fun q9 kk => w_iald (t := 100) hx hb hk hR q9 (by decide) rfl f2 dX2_canPlay_5 kk) ?_
  refine w_iconst hx hb dX2_canPlay_6 ?_
  refine lv_iadd hx hb dX2_canPlay_7 ?_
  refine lv_iload_n hx hb dX2_canPlay_8 rfl (lv_v hl (k := 2) rfl rfl) ?_
  refine lv_icmp_ne (tgt := 16) hx hb dX2_canPlay_9 (by decide) (fun c9 => ?_) (fun c9 => ?_)
  · have f := f.1 c9
    refine w_iconst hx hb dX2_canPlay_16 ?_
    exact w_zret hx hb hr hlk hR hL dX2_canPlay_17 rfl f
  · have f := f.2 c9
    refine w_iconst hx hb dX2_canPlay_12 ?_
    refine lv_goto (tgt := 17) hx hb dX2_canPlay_13 (by decide) ?_
    exact w_zret hx hb hr hlk hR hL dX2_canPlay_17 rfl f
theorem t_X2_canPlay {G : Wd} {l : Launch} {d : Nat} {post : Option Value → VH → Prop} {xp : Nat → VH → Prop} {i1 i2 : Int32} {a0 : Nat} {h : VH} (hd : 9 ≤ d)
    (f : (kd h a0 = 2) ∧ ((kd h (gR h 43 a0) = 200 ∨ kd h (gR h 43 a0) = 300) ∧ (vp_in i1 (ln h (gR h 43 a0))) ∧ ((¬ ((gI h (i1).toNatClampNeg (gR h 43 a0)) + (jI 1)) = i2 → (post (some (.int (jI 0))) h)) ∧ (((gI h (i1).toNatClampNeg (gR h 43 a0)) + (jI 1)) = i2 → (post (some (.int (jI 1))) h))))) : D G l d mX2_canPlay [vR a0, vI i1, vI i2] h post xp := D_in hd rfl rfl fun V XV C => b_X2_canPlay_0 C f
theorem b_X2_comesBack_0 {G : Wd} {l : Launch} {d : Nat} {post : Option Value → VH → Prop} {xp : Nat → VH → Prop} {V : Nat → List (Nat × VT) → List Value → VH → Prop} {XV : Nat → List (Nat × VT) → Nat → VH → Prop} (C : Ctx G l d mX2_comesBack post xp V XV) {a0 : Nat} {h : VH}
    (f : (kd h a0 = 2) ∧ ((kd h a0 = 2) ∧ ((kd h (gR h 40 a0) = 3) ∧ ((¬ (gI h 48 a0) = (gI h 84 (gR h 40 a0)) → ((kd h a0 = 2) ∧ ((kd h a0 = 2) ∧ (∀ h1 : VH, h1 = sI h 48 a0 ((gI h 48 a0) + (jI 1)) → ((kd h1 a0 = 2) ∧ ((kd h1 (gR h1 44 a0) = 200 ∨ kd h1 (gR h1 44 a0) = 300) ∧ (vp_in (jI 4) (ln h1 (gR h1 44 a0))) ∧ ((kd h1 (gR h1 44 a0) = 200) ∧ (vp_in (jI 4) (ln h1 (gR h1 44 a0))) ∧ (∀ h2 : VH, h2 = sI h1 ((jI 4)).toNatClampNeg (gR h1 44 a0) ((gI h1 ((jI 4)).toNatClampNeg (gR h1 44 a0)) + (jI 1)) → (post none h2))))))))) ∧ ((gI h 48 a0) = (gI h 84 (gR h 40 a0)) → (post none h)))))) : V 0 [(0, vR a0)] [] h := by
  obtain ⟨p, e, R, s, m, args, below, meth, c, Q, ⟨hx, hb, hr, hlk, hml, hown, hk, hRr, htb, hnm, hsB, htr, hQ⟩, hV, hX⟩ := C
  rw [hV]
  intro H locs ls hR hL hl
  have hb : c.code = cX2_comesBack := hb
  have hr : meth.sig.returnType = none := hr
  have hml : c.maxLocals = 1 := hml
  have hown : s.vm.findClass RX2 = some m.cls := hown
  have hl : lv_has ls 1 (lm [(0, vR a0)]) := hl
  have hsz : ls.size = c.maxLocals := hl.1.trans hml.symm
  subst hQ
  refine w_aload_n hx hb dX2_comesBack_0 rfl (lv_v hl (k := 0) rfl rfl) ?_
  obtain ⟨f1, f⟩ := f
  refine w_get (i := 1) (k := 8) (v := .int (gI h 48 a0)) hx hb hown hk hR clk_X2 f1 (by decide) (by decide) q725 (fun _ h9 => h9) rfl dX2_comesBack_1 ?_
  refine w_aload_n hx hb dX2_comesBack_4 rfl (lv_v hl (k := 0) rfl rfl) ?_
  obtain ⟨f1, f⟩ := f
  refine w_get (i := 1) (k := 0) (v := vr (gR h 40 a0)) hx hb hown hk hR clk_X2 f1 (by decide) (by decide) q704 (fun _ h9 => h9) rfl dX2_comesBack_5 ?_
  obtain ⟨f1, f⟩ := f
  refine w_getN (i := 2) (k := 4) (v := .int (gI h 84 (gR h 40 a0))) hx hb hown hk hR clk_X3 f1 (by decide) (by decide) q309 (fun _ h9 => h9) rfl dX2_comesBack_8 ?_
  refine lv_icmp_ne (tgt := 15) hx hb dX2_comesBack_11 (by decide) (fun c9 => ?_) (fun c9 => ?_)
  · have f := f.1 c9
    refine w_aload_n hx hb dX2_comesBack_15 rfl (lv_v hl (k := 0) rfl rfl) ?_
    refine lv_dup hx hb dX2_comesBack_16 (vr_cat _) ?_
    obtain ⟨f1, f⟩ := f
    refine w_get (i := 1) (k := 8) (v := .int (gI h 48 a0)) hx hb hown hk hR clk_X2 f1 (by decide) (by decide) q725 (fun _ h9 => h9) rfl dX2_comesBack_17 ?_
    refine w_iconst hx hb dX2_comesBack_20 ?_
    refine lv_iadd hx hb dX2_comesBack_21 ?_
    obtain ⟨f1, f⟩ := f
    refine w_put (i := 1) (k := 8) (c1 := cI (h.1 a0) 48 ((gI h 48 a0) + (jI 1))) hx hb hown hk hR hL clk_X2 f1 (by decide) (by decide) q725 (fun _ h9 => h9) rfl ⟨rfl, rfl⟩ rfl (pvI clk_X2 (by decide) rfl rfl) dX2_comesBack_22 (fun H locs hR hL => ?_)
    obtain ⟨h1, eh1⟩ : ∃ z : VH, z = sI h 48 a0 ((gI h 48 a0) + (jI 1)) := ⟨_, rfl⟩
    have hR : Rp G h1 H := by rw [eh1]; exact hR
    have f := f h1 eh1
    refine w_aload_n hx hb dX2_comesBack_25 rfl (lv_v hl (k := 0) rfl rfl) ?_
    obtain ⟨f1, f⟩ := f
    refine w_get (i := 1) (k := 4) (v := vr (gR h1 44 a0)) hx hb hown hk hR clk_X2 f1 (by decide) (by decide) q716 (fun _ h9 => h9) rfl dX2_comesBack_26 ?_
    refine w_iconst hx hb dX2_comesBack_29 ?_
    refine lv_dup2_11 hx hb dX2_comesBack_30 rfl (vr_cat _) ?_
    obtain ⟨f1, f2, f⟩ := f
    refine or_k f1 (fun q9 kk => w_iald (t := 0) hx hb hk hR q9 (by decide) rfl f2 dX2_comesBack_31 kk) (fun q9 kk => w_iald (t := 100) hx hb hk hR q9 (by decide) rfl f2 dX2_comesBack_31 kk) ?_
    refine w_iconst hx hb dX2_comesBack_32 ?_
    refine lv_iadd hx hb dX2_comesBack_33 ?_
    obtain ⟨f1, f2, f⟩ := f
    refine w_iast hx hb hk hR hL f1 f2 dX2_comesBack_34 (fun H locs hR hL => ?_)
    obtain ⟨h2, eh2⟩ : ∃ z : VH, z = sI h1 ((jI 4)).toNatClampNeg (gR h1 44 a0) ((gI h1 ((jI 4)).toNatClampNeg (gR h1 44 a0)) + (jI 1)) := ⟨_, rfl⟩
    have hR : Rp G h2 H := by rw [eh2]; exact hR
    have f := f h2 eh2
    exact w_vret hx hb hr hlk hR hL dX2_comesBack_35 f
  · have f := f.2 c9
    exact w_vret hx hb hr hlk hR hL dX2_comesBack_14 f
theorem t_X2_comesBack {G : Wd} {l : Launch} {d : Nat} {post : Option Value → VH → Prop} {xp : Nat → VH → Prop} {a0 : Nat} {h : VH} (hd : 9 ≤ d)
    (f : (kd h a0 = 2) ∧ ((kd h a0 = 2) ∧ ((kd h (gR h 40 a0) = 3) ∧ ((¬ (gI h 48 a0) = (gI h 84 (gR h 40 a0)) → ((kd h a0 = 2) ∧ ((kd h a0 = 2) ∧ (∀ h1 : VH, h1 = sI h 48 a0 ((gI h 48 a0) + (jI 1)) → ((kd h1 a0 = 2) ∧ ((kd h1 (gR h1 44 a0) = 200 ∨ kd h1 (gR h1 44 a0) = 300) ∧ (vp_in (jI 4) (ln h1 (gR h1 44 a0))) ∧ ((kd h1 (gR h1 44 a0) = 200) ∧ (vp_in (jI 4) (ln h1 (gR h1 44 a0))) ∧ (∀ h2 : VH, h2 = sI h1 ((jI 4)).toNatClampNeg (gR h1 44 a0) ((gI h1 ((jI 4)).toNatClampNeg (gR h1 44 a0)) + (jI 1)) → (post none h2))))))))) ∧ ((gI h 48 a0) = (gI h 84 (gR h 40 a0)) → (post none h)))))) : D G l d mX2_comesBack [vR a0] h post xp := D_in hd rfl rfl fun V XV C => b_X2_comesBack_0 C f
theorem b_X2_copy_0 {G : Wd} {l : Launch} {d : Nat} {post : Option Value → VH → Prop} {xp : Nat → VH → Prop} {V : Nat → List (Nat × VT) → List Value → VH → Prop} {XV : Nat → List (Nat × VT) → Nat → VH → Prop} (C : Ctx G l d mX2_copy post xp V XV) {a0 : Nat} {h : VH}
    (f : (hz h ≤ wC G) ∧ (hs h + 13 ≤ wS G) ∧ (∀ h1 : VH, h1 = al h 2 0 13 → ((kd h1 a0 = 2) ∧ ((hz h) ≠ 0 ∧ D G l d mX2_init [vR (hz h), vR (gR h1 40 a0)] h1 (fun v h2 => v = none ∧ (V 14 [(0, vR a0), (1, vR (hz h)), (2, vI (jI 0))] [] h2)) xp)))) : V 0 [(0, vR a0)] [] h := by
  obtain ⟨p, e, R, s, m, args, below, meth, c, Q, ⟨hx, hb, hr, hlk, hml, hown, hk, hRr, htb, hnm, hsB, htr, hQ⟩, hV, hX⟩ := C
  rw [hV]
  intro H locs ls hR hL hl
  have hb : c.code = cX2_copy := hb
  have hr : meth.sig.returnType = some (.object "HintTeam$Table") := hr
  have hml : c.maxLocals = 5 := hml
  have hown : s.vm.findClass RX2 = some m.cls := hown
  have hl : lv_has ls 5 (lm [(0, vR a0)]) := hl
  have hsz : ls.size = c.maxLocals := hl.1.trans hml.symm
  subst hQ
  obtain ⟨f1, f2, f⟩ := f
  refine w_new hx hb hown hk hR hL hRr.2.2.1 hRr.2.2.2.1 hsB clk_X2 q2155 q214 q150 f1 f2 (fun k hk => by match k, hk with | 0, _ => rfl | 1, _ => rfl | 2, _ => rfl | 3, _ => rfl | 4, _ => rfl | 5, _ => rfl | 6, _ => rfl | 7, _ => rfl | 8, _ => rfl | 9, _ => rfl | 10, _ => rfl | 11, _ => rfl | 12, _ => rfl | k + 13, hk => exact absurd hk (by omega)) (by decide) (by decide) dX2_copy_0 (fun H hR => ?_)
  obtain ⟨h1, eh1⟩ : ∃ z : VH, z = al h 2 0 13 := ⟨_, rfl⟩
  have hR : Rp G h1 H := by rw [eh1]; exact hR
  have f := f h1 eh1
  refine lv_dup hx hb dX2_copy_3 (vr_cat _) ?_
  refine w_aload_n hx hb dX2_copy_4 rfl (lv_v hl (k := 0) rfl rfl) ?_
  obtain ⟨f1, f⟩ := f
  refine w_get (i := 1) (k := 0) (v := vr (gR h1 40 a0)) hx hb hown hk hR clk_X2 f1 (by decide) (by decide) q704 (fun _ h9 => h9) rfl dX2_copy_5 ?_
  refine w_call (mi := mX2_init) (As := [vR (hz h), vR (gR h1 40 a0)]) (rest := [vr (hz h)]) (len := 3) hk hR hL hsz hsB htr hRr (cok_I (argsL := [vr (gR h1 40 a0)]) hx hb hown hk f.1 rfl q2156 q348 q349 kX2_init.1 kX2_init.2 rfl dX2_copy_8) f.2 wX2_init iX2_init (by decide) (cat_sum _ (Nat.le_of_ble_eq_true rfl)) rfl (fun v h2 H locs f hR hL => ?_) (fun q h9 H locs hp hR hL => x_out hown hlk hR hL (fun x9 h9 => by rw [htb] at h9; exact absurd h9 List.not_mem_nil) ⟨hp.1, hp.2.1⟩ hp.2.2)
  obtain ⟨rfl, f⟩ := f
  show Wn p l e R s m args below meth c H locs _ (F0 m 11 ls [vr (hz h)])
  refine w_astore_n' (L' := [(1, vR (hz h)), (0, vR a0)]) hx hb dX2_copy_11 rfl hl (by decide) rfl (fun ls hl => ?_)
  have hsz : ls.size = c.maxLocals := hl.1.trans hml.symm
  refine w_iconst hx hb dX2_copy_12 ?_
  refine w_istore_n (L' := [(2, vI (jI 0)), (1, vR (hz h)), (0, vR a0)]) hx hb dX2_copy_13 rfl hl (by decide) rfl (fun ls hl => ?_)
  have hsz : ls.size = c.maxLocals := hl.1.trans hml.symm
  exact (hV _ _ _ _).mp f H locs _ hR hL (lv_p hl [2, 1, 0] rfl)
theorem b_X2_copy_14 {G : Wd} {l : Launch} {d : Nat} {post : Option Value → VH → Prop} {xp : Nat → VH → Prop} {V : Nat → List (Nat × VT) → List Value → VH → Prop} {XV : Nat → List (Nat × VT) → Nat → VH → Prop} (C : Ctx G l d mX2_copy post xp V XV) {i2 : Int32} {a0 a1 : Nat} {h : VH}
    (f : (kd h a0 = 2) ∧ (((kd h (gR h 41 a0) = 4) ∧ D G l d mJ2_size [vR (gR h 41 a0)] h (fun v h9 => ∃ x9, v = some (.int x9) ∧ V 24 [(0, vR a0), (1, vR a1), (2, vI i2)] [.int x9, .int i2] h9) xp) ∨ ((kd h (gR h 41 a0) = 9) ∧ D G l d mJ21_size [vR (gR h 41 a0)] h (fun v h9 => ∃ x9, v = some (.int x9) ∧ V 24 [(0, vR a0), (1, vR a1), (2, vI i2)] [.int x9, .int i2] h9) xp))) : V 14 [(0, vR a0), (1, vR a1), (2, vI i2)] [] h := by
  obtain ⟨p, e, R, s, m, args, below, meth, c, Q, ⟨hx, hb, hr, hlk, hml, hown, hk, hRr, htb, hnm, hsB, htr, hQ⟩, hV, hX⟩ := C
  rw [hV]
  intro H locs ls hR hL hl
  have hb : c.code = cX2_copy := hb
  have hr : meth.sig.returnType = some (.object "HintTeam$Table") := hr
  have hml : c.maxLocals = 5 := hml
  have hown : s.vm.findClass RX2 = some m.cls := hown
  have hl : lv_has ls 5 (lm [(0, vR a0), (1, vR a1), (2, vI i2)]) := hl
  have hsz : ls.size = c.maxLocals := hl.1.trans hml.symm
  subst hQ
  refine lv_iload_n hx hb dX2_copy_14 rfl (lv_v hl (k := 2) rfl rfl) ?_
  refine w_aload_n hx hb dX2_copy_15 rfl (lv_v hl (k := 0) rfl rfl) ?_
  obtain ⟨f1, f⟩ := f
  refine w_get (i := 1) (k := 1) (v := vr (gR h 41 a0)) hx hb hown hk hR clk_X2 f1 (by decide) (by decide) q708 (fun _ h9 => h9) rfl dX2_copy_16 ?_
  rcases f with f | f
  · exact w_call (mi := mJ2_size) (As := [vR (gR h 41 a0)]) (rest := [.int i2]) (len := 5) hk hR hL hsz hsB htr hRr (cok_F (n := 0) (x := ⟨"java/util/List", "size", "()I"⟩) (i := 3) (C := RJ2) (argsL := []) hx hb hown hk hR f.1 (by decide) rfl ⟨by decide +kernel, by decide +kernel⟩ q2036 q1133 q1132 q1138 q1136 q1134 q1137 q1135 q1139 (by unfold nPar; decide +kernel) rfl dX2_copy_19) f.2 wJ2_size iJ2_size (by decide) (cat_sum _ (Nat.le_of_ble_eq_true rfl)) rfl (fun v h9 H locs hp hR hL => by obtain ⟨z9, rfl, f⟩ := hp; exact (hV _ _ _ _).mp f H locs _ hR hL (lv_p hl [0, 1, 2] rfl)) (fun q h9 H locs hp hR hL => x_out hown hlk hR hL (fun x9 h9 => by rw [htb] at h9; exact absurd h9 List.not_mem_nil) ⟨hp.1, hp.2.1⟩ hp.2.2)
  exact w_call (mi := mJ21_size) (As := [vR (gR h 41 a0)]) (rest := [.int i2]) (len := 5) hk hR hL hsz hsB htr hRr (cok_F (n := 0) (x := ⟨"java/util/List", "size", "()I"⟩) (i := 8) (C := RJ21) (argsL := []) hx hb hown hk hR f.1 (by decide) rfl ⟨by decide +kernel, by decide +kernel⟩ q2036 q1133 q1132 q1144 q1142 q1140 q1143 q1141 q1145 (by unfold nPar; decide +kernel) rfl dX2_copy_19) f.2 wJ21_size iJ21_size (by decide) (cat_sum _ (Nat.le_of_ble_eq_true rfl)) rfl (fun v h9 H locs hp hR hL => by obtain ⟨z9, rfl, f⟩ := hp; exact (hV _ _ _ _).mp f H locs _ hR hL (lv_p hl [0, 1, 2] rfl)) (fun q h9 H locs hp hR hL => x_out hown hlk hR hL (fun x9 h9 => by rw [htb] at h9; exact absurd h9 List.not_mem_nil) ⟨hp.1, hp.2.1⟩ hp.2.2)
theorem b_X2_copy_24 {G : Wd} {l : Launch} {d : Nat} {post : Option Value → VH → Prop} {xp : Nat → VH → Prop} {V : Nat → List (Nat × VT) → List Value → VH → Prop} {XV : Nat → List (Nat × VT) → Nat → VH → Prop} (C : Ctx G l d mX2_copy post xp V XV) {i2 x0 x1 : Int32} {a0 a1 : Nat} {h : VH}
    (f : (x1 ≤ x0 → ((kd h a0 = 2) ∧ ((kd h (gR h 42 a0) = 9) ∧ D G l d mJ20_iterator [vR (gR h 42 a0)] h (fun v h1 => ∃ ra1, v = some (vr ra1) ∧ (V 120 [(0, vR a0), (1, vR a1), (2, vR ra1)] [] h1)) xp))) ∧ (¬ x1 ≤ x0 → ((kd h a1 = 2) ∧ ((hz h ≤ wC G) ∧ (hs h + 4 ≤ wS G) ∧ (∀ h2 : VH, h2 = al h 9 0 4 → ((hz h) ≠ 0 ∧ D G l d mJ21_init [vR (hz h)] h2 (fun v h3 => v = none ∧ (((kd h3 (gR h 41 a1) = 4) ∧ D G l d mJ2_add [vR (gR h 41 a1), vR (hz h)] h3 (fun v h9 => ∃ x9, v = some (.int x9) ∧ V 43 [(0, vR a0), (1, vR a1), (2, vI i2)] [.int x9] h9) xp) ∨ ((kd h3 (gR h 41 a1) = 9) ∧ D G l d mJ21_add [vR (gR h 41 a1), vR (hz h)] h3 (fun v h9 => ∃ x9, v = some (.int x9) ∧ V 43 [(0, vR a0), (1, vR a1), (2, vI i2)] [.int x9] h9) xp))) xp)))))) : V 24 [(0, vR a0), (1, vR a1), (2, vI i2)] [.int x1, .int x0] h := by
  obtain ⟨p, e, R, s, m, args, below, meth, c, Q, ⟨hx, hb, hr, hlk, hml, hown, hk, hRr, htb, hnm, hsB, htr, hQ⟩, hV, hX⟩ := C
  rw [hV]
  intro H locs ls hR hL hl
  have hb : c.code = cX2_copy := hb
  have hr : meth.sig.returnType = some (.object "HintTeam$Table") := hr
  have hml : c.maxLocals = 5 := hml
  have hown : s.vm.findClass RX2 = some m.cls := hown
  have hl : lv_has ls 5 (lm [(0, vR a0), (1, vR a1), (2, vI i2)]) := hl
  have hsz : ls.size = c.maxLocals := hl.1.trans hml.symm
  subst hQ
  refine lv_icmp_ge (tgt := 112) hx hb dX2_copy_24 (by decide) (fun c9 => ?_) (fun c9 => ?_)
  · have f := f.1 c9
    refine w_aload_n hx hb dX2_copy_112 rfl (lv_v hl (k := 0) rfl rfl) ?_
    obtain ⟨f1, f⟩ := f
    refine w_get (i := 1) (k := 2) (v := vr (gR h 42 a0)) hx hb hown hk hR clk_X2 f1 (by decide) (by decide) q711 (fun _ h9 => h9) rfl dX2_copy_113 ?_
    refine w_call (mi := mJ20_iterator) (As := [vR (gR h 42 a0)]) (rest := []) (len := 3) hk hR hL hsz hsB htr hRr (cok_U (n := 0) (x := ⟨"java/util/LinkedList", "iterator", "()Ljava/util/Iterator;"⟩) (owner := "java/util/AbstractSequentialList") (i := 8) (C := RJ21) (argsL := []) hx hb hown hk hR f.1 (by decide) rfl q2157 q2158 (va_Decl.abs (hk.de q2159)) ⟨by decide +kernel, by decide +kernel⟩ q1415 q2160 q1417 (by unfold nPar; decide +kernel) rfl dX2_copy_116) f.2 wJ20_iterator iJ20_iterator (by decide) (cat_sum _ (Nat.le_of_ble_eq_true rfl)) rfl (fun v h1 H locs f hR hL => ?_) (fun q h9 H locs hp hR hL => x_out hown hlk hR hL (fun x9 h9 => by rw [htb] at h9; exact absurd h9 List.not_mem_nil) ⟨hp.1, hp.2.1⟩ hp.2.2)
    obtain ⟨ra1, rfl, f⟩ := f
    show Wn p l e R s m args below meth c H locs _ (F0 m 119 ls [vr ra1])
    refine w_astore_n' (L' := [(2, vR ra1), (0, vR a0), (1, vR a1)]) hx hb dX2_copy_119 rfl hl (by decide) rfl (fun ls hl => ?_)
    have hsz : ls.size = c.maxLocals := hl.1.trans hml.symm
    exact (hV _ _ _ _).mp f H locs _ hR hL (lv_p hl [1, 2, 0] rfl)
  · have f := f.2 c9
    refine w_aload_n hx hb dX2_copy_27 rfl (lv_v hl (k := 1) rfl rfl) ?_
    obtain ⟨f1, f⟩ := f
    refine w_get (i := 1) (k := 1) (v := vr (gR h 41 a1)) hx hb hown hk hR clk_X2 f1 (by decide) (by decide) q708 (fun _ h9 => h9) rfl dX2_copy_28 ?_
    obtain ⟨f1, f2, f⟩ := f
    refine w_new hx hb hown hk hR hL hRr.2.2.1 hRr.2.2.2.1 hsB clk_J21 q677 q678 q174 f1 f2 (fun k hk => by match k, hk with | 0, _ => rfl | 1, _ => rfl | 2, _ => rfl | 3, _ => rfl | k + 4, hk => exact absurd hk (by omega)) (by decide) (by decide) dX2_copy_31 (fun H hR => ?_)
    obtain ⟨h2, eh2⟩ : ∃ z : VH, z = al h 9 0 4 := ⟨_, rfl⟩
    have hR : Rp G h2 H := by rw [eh2]; exact hR
    have f := f h2 eh2
    refine lv_dup hx hb dX2_copy_34 (vr_cat _) ?_
    refine w_call (mi := mJ21_init) (As := [vR (hz h)]) (rest := [vr (hz h), vr (gR h 41 a1)]) (len := 3) hk hR hL hsz hsB htr hRr (cok_I (argsL := []) hx hb hown hk f.1 rfl q679 q680 q681 kJ21_init.1 kJ21_init.2 rfl dX2_copy_35) f.2 wJ21_init iJ21_init (by decide) (cat_sum _ (Nat.le_of_ble_eq_true rfl)) rfl (fun v h3 H locs f hR hL => ?_) (fun q h9 H locs hp hR hL => x_out hown hlk hR hL (fun x9 h9 => by rw [htb] at h9; exact absurd h9 List.not_mem_nil) ⟨hp.1, hp.2.1⟩ hp.2.2)
    obtain ⟨rfl, f⟩ := f
    show Wn p l e R s m args below meth c H locs _ (F0 m 38 ls [vr (hz h), vr (gR h 41 a1)])
    rcases f with f | f
    · exact w_call (mi := mJ2_add) (As := [vR (gR h 41 a1), vR (hz h)]) (rest := []) (len := 5) hk hR hL hsz hsB htr hRr (cok_F (n := 1) (x := ⟨"java/util/List", "add", "(Ljava/lang/Object;)Z"⟩) (i := 3) (C := RJ2) (argsL := [vr (hz h)]) hx hb hown hk hR f.1 (by decide) rfl ⟨by decide +kernel, by decide +kernel⟩ q2030 q1168 q1167 q1172 q1170 q1134 q1171 q1169 q1173 (by unfold nPar; decide +kernel) rfl dX2_copy_38) f.2 wJ2_add iJ2_add (by decide) (cat_sum _ (Nat.le_of_ble_eq_true rfl)) rfl (fun v h9 H locs hp hR hL => by obtain ⟨z9, rfl, f⟩ := hp; exact (hV _ _ _ _).mp f H locs _ hR hL (lv_p hl [0, 1, 2] rfl)) (fun q h9 H locs hp hR hL => x_out hown hlk hR hL (fun x9 h9 => by rw [htb] at h9; exact absurd h9 List.not_mem_nil) ⟨hp.1, hp.2.1⟩ hp.2.2)
    exact w_call (mi := mJ21_add) (As := [vR (gR h 41 a1), vR (hz h)]) (rest := []) (len := 5) hk hR hL hsz hsB htr hRr (cok_F (n := 1) (x := ⟨"java/util/List", "add", "(Ljava/lang/Object;)Z"⟩) (i := 8) (C := RJ21) (argsL := [vr (hz h)]) hx hb hown hk hR f.1 (by decide) rfl ⟨by decide +kernel, by decide +kernel⟩ q2030 q1168 q1167 q1237 q1235 q1140 q1236 q1234 q1238 (by unfold nPar; decide +kernel) rfl dX2_copy_38) f.2 wJ21_add iJ21_add (by decide) (cat_sum _ (Nat.le_of_ble_eq_true rfl)) rfl (fun v h9 H locs hp hR hL => by obtain ⟨z9, rfl, f⟩ := hp; exact (hV _ _ _ _).mp f H locs _ hR hL (lv_p hl [0, 1, 2] rfl)) (fun q h9 H locs hp hR hL => x_out hown hlk hR hL (fun x9 h9 => by rw [htb] at h9; exact absurd h9 List.not_mem_nil) ⟨hp.1, hp.2.1⟩ hp.2.2)
theorem b_X2_copy_43 {G : Wd} {l : Launch} {d : Nat} {post : Option Value → VH → Prop} {xp : Nat → VH → Prop} {V : Nat → List (Nat × VT) → List Value → VH → Prop} {XV : Nat → List (Nat × VT) → Nat → VH → Prop} (C : Ctx G l d mX2_copy post xp V XV) {i2 x0 : Int32} {a0 a1 : Nat} {h : VH}
    (f : (kd h a0 = 2) ∧ (((kd h (gR h 41 a0) = 4) ∧ D G l d mJ2_get [vR (gR h 41 a0), vI i2] h (fun v h9 => ∃ b9, v = some (vr b9) ∧ V 54 [(0, vR a0), (1, vR a1), (2, vI i2)] [vr b9] h9) xp) ∨ ((kd h (gR h 41 a0) = 9) ∧ D G l d mJ21_get [vR (gR h 41 a0), vI i2] h (fun v h9 => ∃ b9, v = some (vr b9) ∧ V 54 [(0, vR a0), (1, vR a1), (2, vI i2)] [vr b9] h9) xp))) : V 43 [(0, vR a0), (1, vR a1), (2, vI i2)] [.int x0] h := by
  obtain ⟨p, e, R, s, m, args, below, meth, c, Q, ⟨hx, hb, hr, hlk, hml, hown, hk, hRr, htb, hnm, hsB, htr, hQ⟩, hV, hX⟩ := C
  rw [hV]
  intro H locs ls hR hL hl
  have hb : c.code = cX2_copy := hb
  have hr : meth.sig.returnType = some (.object "HintTeam$Table") := hr
  have hml : c.maxLocals = 5 := hml
  have hown : s.vm.findClass RX2 = some m.cls := hown
  have hl : lv_has ls 5 (lm [(0, vR a0), (1, vR a1), (2, vI i2)]) := hl
  have hsz : ls.size = c.maxLocals := hl.1.trans hml.symm
  subst hQ
  refine lv_pop hx hb dX2_copy_43 rfl ?_
  refine w_aload_n hx hb dX2_copy_44 rfl (lv_v hl (k := 0) rfl rfl) ?_
  obtain ⟨f1, f⟩ := f
  refine w_get (i := 1) (k := 1) (v := vr (gR h 41 a0)) hx hb hown hk hR clk_X2 f1 (by decide) (by decide) q708 (fun _ h9 => h9) rfl dX2_copy_45 ?_
  refine lv_iload_n hx hb dX2_copy_48 rfl (lv_v hl (k := 2) rfl rfl) ?_
  rcases f with f | f
  · exact w_call (mi := mJ2_get) (As := [vR (gR h 41 a0), vI i2]) (rest := []) (len := 5) hk hR hL hsz hsB htr hRr (cok_F (n := 1) (x := ⟨"java/util/List", "get", "(I)Ljava/lang/Object;"⟩) (i := 3) (C := RJ2) (argsL := [.int i2]) hx hb hown hk hR f.1 (by decide) rfl ⟨by decide +kernel, by decide +kernel⟩ q1605 q1300 q1299 q1304 q1302 q1134 q1303 q1301 q1305 (by unfold nPar; decide +kernel) rfl dX2_copy_49) f.2 wJ2_get iJ2_get (by decide) (cat_sum _ (Nat.le_of_ble_eq_true rfl)) rfl (fun v h9 H locs hp hR hL => by obtain ⟨z9, rfl, f⟩ := hp; exact (hV _ _ _ _).mp f H locs _ hR hL (lv_p hl [0, 1, 2] rfl)) (fun q h9 H locs hp hR hL => x_out hown hlk hR hL (fun x9 h9 => by rw [htb] at h9; exact absurd h9 List.not_mem_nil) ⟨hp.1, hp.2.1⟩ hp.2.2)
  exact w_call (mi := mJ21_get) (As := [vR (gR h 41 a0), vI i2]) (rest := []) (len := 5) hk hR hL hsz hsB htr hRr (cok_F (n := 1) (x := ⟨"java/util/List", "get", "(I)Ljava/lang/Object;"⟩) (i := 8) (C := RJ21) (argsL := [.int i2]) hx hb hown hk hR f.1 (by decide) rfl ⟨by decide +kernel, by decide +kernel⟩ q1605 q1300 q1299 q1317 q1315 q1140 q1316 q1314 q1318 (by unfold nPar; decide +kernel) rfl dX2_copy_49) f.2 wJ21_get iJ21_get (by decide) (cat_sum _ (Nat.le_of_ble_eq_true rfl)) rfl (fun v h9 H locs hp hR hL => by obtain ⟨z9, rfl, f⟩ := hp; exact (hV _ _ _ _).mp f H locs _ hR hL (lv_p hl [0, 1, 2] rfl)) (fun q h9 H locs hp hR hL => x_out hown hlk hR hL (fun x9 h9 => by rw [htb] at h9; exact absurd h9 List.not_mem_nil) ⟨hp.1, hp.2.1⟩ hp.2.2)
theorem b_X2_copy_54 {G : Wd} {l : Launch} {d : Nat} {post : Option Value → VH → Prop} {xp : Nat → VH → Prop} {V : Nat → List (Nat × VT) → List Value → VH → Prop} {XV : Nat → List (Nat × VT) → Nat → VH → Prop} (C : Ctx G l d mX2_copy post xp V XV) {i2 : Int32} {a0 a1 b0 : Nat} {h : VH}
    (f : (b0 = 0 ∨ kd h b0 = 9) ∧ ((kd h b0 = 9) ∧ D G l d mJ20_iterator [vR b0] h (fun v h1 => ∃ ra1, v = some (vr ra1) ∧ (V 61 [(0, vR a0), (1, vR a1), (2, vI i2), (3, vR ra1)] [] h1)) xp)) : V 54 [(0, vR a0), (1, vR a1), (2, vI i2)] [vr b0] h := by
  obtain ⟨p, e, R, s, m, args, below, meth, c, Q, ⟨hx, hb, hr, hlk, hml, hown, hk, hRr, htb, hnm, hsB, htr, hQ⟩, hV, hX⟩ := C
  rw [hV]
  intro H locs ls hR hL hl
  have hb : c.code = cX2_copy := hb
  have hr : meth.sig.returnType = some (.object "HintTeam$Table") := hr
  have hml : c.maxLocals = 5 := hml
  have hown : s.vm.findClass RX2 = some m.cls := hown
  have hl : lv_has ls 5 (lm [(0, vR a0), (1, vR a1), (2, vI i2)]) := hl
  have hsz : ls.size = c.maxLocals := hl.1.trans hml.symm
  subst hQ
  obtain ⟨f1, f⟩ := f
  refine w_castS (i := 8) (C := "java/util/LinkedList") hx hb hown hk hR f1 (by decide) rfl q677 dX2_copy_54 ?_
  refine w_call (mi := mJ20_iterator) (As := [vR b0]) (rest := []) (len := 3) hk hR hL hsz hsB htr hRr (cok_U (n := 0) (x := ⟨"java/util/LinkedList", "iterator", "()Ljava/util/Iterator;"⟩) (owner := "java/util/AbstractSequentialList") (i := 8) (C := RJ21) (argsL := []) hx hb hown hk hR f.1 (by decide) rfl q2157 q2158 (va_Decl.abs (hk.de q2159)) ⟨by decide +kernel, by decide +kernel⟩ q1415 q2160 q1417 (by unfold nPar; decide +kernel) rfl dX2_copy_57) f.2 wJ20_iterator iJ20_iterator (by decide) (cat_sum _ (Nat.le_of_ble_eq_true rfl)) rfl (fun v h1 H locs f hR hL => ?_) (fun q h9 H locs hp hR hL => x_out hown hlk hR hL (fun x9 h9 => by rw [htb] at h9; exact absurd h9 List.not_mem_nil) ⟨hp.1, hp.2.1⟩ hp.2.2)
  obtain ⟨ra1, rfl, f⟩ := f
  show Wn p l e R s m args below meth c H locs _ (F0 m 60 ls [vr ra1])
  refine w_astore_n' (L' := [(3, vR ra1), (0, vR a0), (1, vR a1), (2, vI i2)]) hx hb dX2_copy_60 rfl hl (by decide) rfl (fun ls hl => ?_)
  have hsz : ls.size = c.maxLocals := hl.1.trans hml.symm
  exact (hV _ _ _ _).mp f H locs _ hR hL (lv_p hl [1, 2, 3, 0] rfl)
theorem b_X2_copy_61 {G : Wd} {l : Launch} {d : Nat} {post : Option Value → VH → Prop} {xp : Nat → VH → Prop} {V : Nat → List (Nat × VT) → List Value → VH → Prop} {XV : Nat → List (Nat × VT) → Nat → VH → Prop} (C : Ctx G l d mX2_copy post xp V XV) {i2 : Int32} {a0 a1 a3 : Nat} {h : VH}
    (f : ((kd h a3 = 19) ∧ D G l d mJ28_hasNext [vR a3] h (fun v h9 => ∃ x9, v = some (.int x9) ∧ V 67 [(0, vR a0), (1, vR a1), (2, vI i2), (3, vR a3)] [.int x9] h9) xp) ∨ ((kd h a3 = 20) ∧ D G l d mJ31_hasNext [vR a3] h (fun v h9 => ∃ x9, v = some (.int x9) ∧ V 67 [(0, vR a0), (1, vR a1), (2, vI i2), (3, vR a3)] [.int x9] h9) xp) ∨ ((kd h a3 = 25) ∧ D G l d mX14_hasNext [vR a3] h (fun v h9 => ∃ x9, v = some (.int x9) ∧ V 67 [(0, vR a0), (1, vR a1), (2, vI i2), (3, vR a3)] [.int x9] h9) xp)) : V 61 [(0, vR a0), (1, vR a1), (2, vI i2), (3, vR a3)] [] h := by
  obtain ⟨p, e, R, s, m, args, below, meth, c, Q, ⟨hx, hb, hr, hlk, hml, hown, hk, hRr, htb, hnm, hsB, htr, hQ⟩, hV, hX⟩ := C
  rw [hV]
  intro H locs ls hR hL hl
  have hb : c.code = cX2_copy := hb
  have hr : meth.sig.returnType = some (.object "HintTeam$Table") := hr
  have hml : c.maxLocals = 5 := hml
  have hown : s.vm.findClass RX2 = some m.cls := hown
  have hl : lv_has ls 5 (lm [(0, vR a0), (1, vR a1), (2, vI i2), (3, vR a3)]) := hl
  have hsz : ls.size = c.maxLocals := hl.1.trans hml.symm
  subst hQ
  refine w_aload_n hx hb dX2_copy_61 rfl (lv_v hl (k := 3) rfl rfl) ?_
  rcases f with f | f
  · exact w_call (mi := mJ28_hasNext) (As := [vR a3]) (rest := []) (len := 5) hk hR hL hsz hsB htr hRr (cok_F (n := 0) (x := ⟨"java/util/Iterator", "hasNext", "()Z"⟩) (i := 18) (C := RJ28) (argsL := []) hx hb hown hk hR f.1 (by decide) rfl ⟨by decide +kernel, by decide +kernel⟩ q2162 q1494 q1493 q1516 q1514 q1512 q1515 q1513 q1517 (by unfold nPar; decide +kernel) rfl dX2_copy_62) f.2 wJ28_hasNext iJ28_hasNext (by decide) (cat_sum _ (Nat.le_of_ble_eq_true rfl)) rfl (fun v h9 H locs hp hR hL => by obtain ⟨z9, rfl, f⟩ := hp; exact (hV _ _ _ _).mp f H locs _ hR hL (lv_p hl [0, 1, 2, 3] rfl)) (fun q h9 H locs hp hR hL => x_out hown hlk hR hL (fun x9 h9 => by rw [htb] at h9; exact absurd h9 List.not_mem_nil) ⟨hp.1, hp.2.1⟩ hp.2.2)
  rcases f with f | f
  · exact w_call (mi := mJ31_hasNext) (As := [vR a3]) (rest := []) (len := 5) hk hR hL hsz hsB htr hRr (cok_F (n := 0) (x := ⟨"java/util/Iterator", "hasNext", "()Z"⟩) (i := 19) (C := RJ31) (argsL := []) hx hb hown hk hR f.1 (by decide) rfl ⟨by decide +kernel, by decide +kernel⟩ q2162 q1494 q1493 q1525 q1523 q1521 q1524 q1522 q1526 (by unfold nPar; decide +kernel) rfl dX2_copy_62) f.2 wJ31_hasNext iJ31_hasNext (by decide) (cat_sum _ (Nat.le_of_ble_eq_true rfl)) rfl (fun v h9 H locs hp hR hL => by obtain ⟨z9, rfl, f⟩ := hp; exact (hV _ _ _ _).mp f H locs _ hR hL (lv_p hl [0, 1, 2, 3] rfl)) (fun q h9 H locs hp hR hL => x_out hown hlk hR hL (fun x9 h9 => by rw [htb] at h9; exact absurd h9 List.not_mem_nil) ⟨hp.1, hp.2.1⟩ hp.2.2)
  exact w_call (mi := mX14_hasNext) (As := [vR a3]) (rest := []) (len := 5) hk hR hL hsz hsB htr hRr (cok_F (n := 0) (x := ⟨"java/util/Iterator", "hasNext", "()Z"⟩) (i := 24) (C := RX14) (argsL := []) hx hb hown hk hR f.1 (by decide) rfl ⟨by decide +kernel, by decide +kernel⟩ q2162 q1494 q1493 q1499 q1497 q1495 q1498 q1496 q1500 (by unfold nPar; decide +kernel) rfl dX2_copy_62) f.2 wX14_hasNext iX14_hasNext (by decide) (cat_sum _ (Nat.le_of_ble_eq_true rfl)) rfl (fun v h9 H locs hp hR hL => by obtain ⟨z9, rfl, f⟩ := hp; exact (hV _ _ _ _).mp f H locs _ hR hL (lv_p hl [0, 1, 2, 3] rfl)) (fun q h9 H locs hp hR hL => x_out hown hlk hR hL (fun x9 h9 => by rw [htb] at h9; exact absurd h9 List.not_mem_nil) ⟨hp.1, hp.2.1⟩ hp.2.2)
theorem b_X2_copy_67 {G : Wd} {l : Launch} {d : Nat} {post : Option Value → VH → Prop} {xp : Nat → VH → Prop} {V : Nat → List (Nat × VT) → List Value → VH → Prop} {XV : Nat → List (Nat × VT) → Nat → VH → Prop} (C : Ctx G l d mX2_copy post xp V XV) {i2 x0 : Int32} {a0 a1 a3 : Nat} {h : VH}
    (f : (x0 = 0 → (V 14 [(0, vR a0), (1, vR a1), (2, vI (i2 + (jI 1)))] [] h)) ∧ (¬ x0 = 0 → (((kd h a3 = 19) ∧ D G l d mJ28_next [vR a3] h (fun v h9 => ∃ b9, v = some (vr b9) ∧ V 76 [(0, vR a0), (1, vR a1), (2, vI i2), (3, vR a3)] [vr b9] h9) xp) ∨ ((kd h a3 = 20) ∧ D G l d mJ31_next [vR a3] h (fun v h9 => ∃ b9, v = some (vr b9) ∧ V 76 [(0, vR a0), (1, vR a1), (2, vI i2), (3, vR a3)] [vr b9] h9) xp) ∨ ((kd h a3 = 25) ∧ D G l d mX14_next [vR a3] h (fun v h9 => ∃ b9, v = some (vr b9) ∧ V 76 [(0, vR a0), (1, vR a1), (2, vI i2), (3, vR a3)] [vr b9] h9) xp)))) : V 67 [(0, vR a0), (1, vR a1), (2, vI i2), (3, vR a3)] [.int x0] h := by
  obtain ⟨p, e, R, s, m, args, below, meth, c, Q, ⟨hx, hb, hr, hlk, hml, hown, hk, hRr, htb, hnm, hsB, htr, hQ⟩, hV, hX⟩ := C
  rw [hV]
  intro H locs ls hR hL hl
  have hb : c.code = cX2_copy := hb
  have hr : meth.sig.returnType = some (.object "HintTeam$Table") := hr
  have hml : c.maxLocals = 5 := hml
  have hown : s.vm.findClass RX2 = some m.cls := hown
  have hl : lv_has ls 5 (lm [(0, vR a0), (1, vR a1), (2, vI i2), (3, vR a3)]) := hl
  have hsz : ls.size = c.maxLocals := hl.1.trans hml.symm
  subst hQ
  refine lv_if_eq (tgt := 106) hx hb dX2_copy_67 (by decide) (fun c9 => ?_) (fun c9 => ?_)
  · have f := f.1 c9
    refine w_iinc (L' := [(2, vI (i2 + (jI 1))), (0, vR a0), (1, vR a1), (3, vR a3)]) hx hb dX2_copy_106 hl (k := 2) rfl (by decide) rfl (fun ls hl => ?_)
    have hsz : ls.size = c.maxLocals := hl.1.trans hml.symm
    refine lv_goto (tgt := 14) hx hb dX2_copy_109 (by decide) ?_
    exact (hV _ _ _ _).mp f H locs _ hR hL (lv_p hl [1, 2, 0] rfl)
  · have f := f.2 c9
    refine w_aload_n hx hb dX2_copy_70 rfl (lv_v hl (k := 3) rfl rfl) ?_
    rcases f with f | f
    · exact w_call (mi := mJ28_next) (As := [vR a3]) (rest := []) (len := 5) hk hR hL hsz hsB htr hRr (cok_F (n := 0) (x := ⟨"java/util/Iterator", "next", "()Ljava/lang/Object;"⟩) (i := 18) (C := RJ28) (argsL := []) hx hb hown hk hR f.1 (by decide) rfl ⟨by decide +kernel, by decide +kernel⟩ q2164 q1530 q1529 q1682 q1680 q1512 q1681 q1679 q1683 (by unfold nPar; decide +kernel) rfl dX2_copy_71) f.2 wJ28_next iJ28_next (by decide) (cat_sum _ (Nat.le_of_ble_eq_true rfl)) rfl (fun v h9 H locs hp hR hL => by obtain ⟨z9, rfl, f⟩ := hp; exact (hV _ _ _ _).mp f H locs _ hR hL (lv_p hl [0, 1, 2, 3] rfl)) (fun q h9 H locs hp hR hL => x_out hown hlk hR hL (fun x9 h9 => by rw [htb] at h9; exact absurd h9 List.not_mem_nil) ⟨hp.1, hp.2.1⟩ hp.2.2)
    rcases f with f | f
    · exact w_call (mi := mJ31_next) (As := [vR a3]) (rest := []) (len := 5) hk hR hL hsz hsB htr hRr (cok_F (n := 0) (x := ⟨"java/util/Iterator", "next", "()Ljava/lang/Object;"⟩) (i := 19) (C := RJ31) (argsL := []) hx hb hown hk hR f.1 (by decide) rfl ⟨by decide +kernel, by decide +kernel⟩ q2164 q1530 q1529 q1695 q1693 q1521 q1694 q1692 q1696 (by unfold nPar; decide +kernel) rfl dX2_copy_71) f.2 wJ31_next iJ31_next (by decide) (cat_sum _ (Nat.le_of_ble_eq_true rfl)) rfl (fun v h9 H locs hp hR hL => by obtain ⟨z9, rfl, f⟩ := hp; exact (hV _ _ _ _).mp f H locs _ hR hL (lv_p hl [0, 1, 2, 3] rfl)) (fun q h9 H locs hp hR hL => x_out hown hlk hR hL (fun x9 h9 => by rw [htb] at h9; exact absurd h9 List.not_mem_nil) ⟨hp.1, hp.2.1⟩ hp.2.2)
    exact w_call (mi := mX14_next) (As := [vR a3]) (rest := []) (len := 5) hk hR hL hsz hsB htr hRr (cok_F (n := 0) (x := ⟨"java/util/Iterator", "next", "()Ljava/lang/Object;"⟩) (i := 24) (C := RX14) (argsL := []) hx hb hown hk hR f.1 (by decide) rfl ⟨by decide +kernel, by decide +kernel⟩ q2164 q1530 q1529 q1534 q1532 q1495 q1533 q1531 q1535 (by unfold nPar; decide +kernel) rfl dX2_copy_71) f.2 wX14_next iX14_next (by decide) (cat_sum _ (Nat.le_of_ble_eq_true rfl)) rfl (fun v h9 H locs hp hR hL => by obtain ⟨z9, rfl, f⟩ := hp; exact (hV _ _ _ _).mp f H locs _ hR hL (lv_p hl [0, 1, 2, 3] rfl)) (fun q h9 H locs hp hR hL => x_out hown hlk hR hL (fun x9 h9 => by rw [htb] at h9; exact absurd h9 List.not_mem_nil) ⟨hp.1, hp.2.1⟩ hp.2.2)
theorem b_X2_copy_76 {G : Wd} {l : Launch} {d : Nat} {post : Option Value → VH → Prop} {xp : Nat → VH → Prop} {V : Nat → List (Nat × VT) → List Value → VH → Prop} {XV : Nat → List (Nat × VT) → Nat → VH → Prop} (C : Ctx G l d mX2_copy post xp V XV) {i2 : Int32} {a0 a1 a3 b0 : Nat} {h : VH}
    (f : (b0 = 0 ∨ kd h b0 = 23) ∧ ((kd h a1 = 2) ∧ (((kd h (gR h 41 a1) = 4) ∧ D G l d mJ2_get [vR (gR h 41 a1), vI i2] h (fun v h9 => ∃ b9, v = some (vr b9) ∧ V 91 [(0, vR a0), (1, vR a1), (2, vI i2), (3, vR a3), (4, vR b0)] [vr b9] h9) xp) ∨ ((kd h (gR h 41 a1) = 9) ∧ D G l d mJ21_get [vR (gR h 41 a1), vI i2] h (fun v h9 => ∃ b9, v = some (vr b9) ∧ V 91 [(0, vR a0), (1, vR a1), (2, vI i2), (3, vR a3), (4, vR b0)] [vr b9] h9) xp)))) : V 76 [(0, vR a0), (1, vR a1), (2, vI i2), (3, vR a3)] [vr b0] h := by
  obtain ⟨p, e, R, s, m, args, below, meth, c, Q, ⟨hx, hb, hr, hlk, hml, hown, hk, hRr, htb, hnm, hsB, htr, hQ⟩, hV, hX⟩ := C
  rw [hV]
  intro H locs ls hR hL hl
  have hb : c.code = cX2_copy := hb
  have hr : meth.sig.returnType = some (.object "HintTeam$Table") := hr
  have hml : c.maxLocals = 5 := hml
  have hown : s.vm.findClass RX2 = some m.cls := hown
  have hl : lv_has ls 5 (lm [(0, vR a0), (1, vR a1), (2, vI i2), (3, vR a3)]) := hl
  have hsz : ls.size = c.maxLocals := hl.1.trans hml.symm
  subst hQ
  obtain ⟨f1, f⟩ := f
  refine w_castS (i := 22) (C := "HintTeam$Held") hx hb hown hk hR f1 (by decide) rfl q1608 dX2_copy_76 ?_
  refine w_astore' (L' := [(4, vR b0), (0, vR a0), (1, vR a1), (2, vI i2), (3, vR a3)]) hx hb dX2_copy_79 hl (by decide) rfl (fun ls hl => ?_)
  have hsz : ls.size = c.maxLocals := hl.1.trans hml.symm
  refine w_aload_n hx hb dX2_copy_81 rfl (lv_v hl (k := 2) rfl rfl) ?_
  obtain ⟨f1, f⟩ := f
  refine w_get (i := 1) (k := 1) (v := vr (gR h 41 a1)) hx hb hown hk hR clk_X2 f1 (by decide) (by decide) q708 (fun _ h9 => h9) rfl dX2_copy_82 ?_
  refine lv_iload_n hx hb dX2_copy_85 rfl (lv_v hl (k := 3) rfl rfl) ?_
  rcases f with f | f
  · exact w_call (mi := mJ2_get) (As := [vR (gR h 41 a1), vI i2]) (rest := []) (len := 5) hk hR hL hsz hsB htr hRr (cok_F (n := 1) (x := ⟨"java/util/List", "get", "(I)Ljava/lang/Object;"⟩) (i := 3) (C := RJ2) (argsL := [.int i2]) hx hb hown hk hR f.1 (by decide) rfl ⟨by decide +kernel, by decide +kernel⟩ q1605 q1300 q1299 q1304 q1302 q1134 q1303 q1301 q1305 (by unfold nPar; decide +kernel) rfl dX2_copy_86) f.2 wJ2_get iJ2_get (by decide) (cat_sum _ (Nat.le_of_ble_eq_true rfl)) rfl (fun v h9 H locs hp hR hL => by obtain ⟨z9, rfl, f⟩ := hp; exact (hV _ _ _ _).mp f H locs _ hR hL (lv_p hl [1, 2, 3, 4, 0] rfl)) (fun q h9 H locs hp hR hL => x_out hown hlk hR hL (fun x9 h9 => by rw [htb] at h9; exact absurd h9 List.not_mem_nil) ⟨hp.1, hp.2.1⟩ hp.2.2)
  exact w_call (mi := mJ21_get) (As := [vR (gR h 41 a1), vI i2]) (rest := []) (len := 5) hk hR hL hsz hsB htr hRr (cok_F (n := 1) (x := ⟨"java/util/List", "get", "(I)Ljava/lang/Object;"⟩) (i := 8) (C := RJ21) (argsL := [.int i2]) hx hb hown hk hR f.1 (by decide) rfl ⟨by decide +kernel, by decide +kernel⟩ q1605 q1300 q1299 q1317 q1315 q1140 q1316 q1314 q1318 (by unfold nPar; decide +kernel) rfl dX2_copy_86) f.2 wJ21_get iJ21_get (by decide) (cat_sum _ (Nat.le_of_ble_eq_true rfl)) rfl (fun v h9 H locs hp hR hL => by obtain ⟨z9, rfl, f⟩ := hp; exact (hV _ _ _ _).mp f H locs _ hR hL (lv_p hl [1, 2, 3, 4, 0] rfl)) (fun q h9 H locs hp hR hL => x_out hown hlk hR hL (fun x9 h9 => by rw [htb] at h9; exact absurd h9 List.not_mem_nil) ⟨hp.1, hp.2.1⟩ hp.2.2)
theorem b_X2_copy_91 {G : Wd} {l : Launch} {d : Nat} {post : Option Value → VH → Prop} {xp : Nat → VH → Prop} {V : Nat → List (Nat × VT) → List Value → VH → Prop} {XV : Nat → List (Nat × VT) → Nat → VH → Prop} (C : Ctx G l d mX2_copy post xp V XV) {i2 : Int32} {a0 a1 a3 a4 b0 : Nat} {h : VH}
    (f : (b0 = 0 ∨ kd h b0 = 9) ∧ ((kd h a4 = 23) ∧ D G l d mX12_copy [vR a4] h (fun v h1 => ∃ ra1, v = some (vr ra1) ∧ ((kd h1 b0 = 9) ∧ D G l d mJ21_add [vR b0, vR ra1] h1 (fun v h2 => ∃ ri2, v = some (.int ri2) ∧ (V 61 [(0, vR a0), (1, vR a1), (2, vI i2), (3, vR a3)] [] h2)) xp)) xp)) : V 91 [(0, vR a0), (1, vR a1), (2, vI i2), (3, vR a3), (4, vR a4)] [vr b0] h := by
  obtain ⟨p, e, R, s, m, args, below, meth, c, Q, ⟨hx, hb, hr, hlk, hml, hown, hk, hRr, htb, hnm, hsB, htr, hQ⟩, hV, hX⟩ := C
  rw [hV]
  intro H locs ls hR hL hl
  have hb : c.code = cX2_copy := hb
  have hr : meth.sig.returnType = some (.object "HintTeam$Table") := hr
  have hml : c.maxLocals = 5 := hml
  have hown : s.vm.findClass RX2 = some m.cls := hown
  have hl : lv_has ls 5 (lm [(0, vR a0), (1, vR a1), (2, vI i2), (3, vR a3), (4, vR a4)]) := hl
  have hsz : ls.size = c.maxLocals := hl.1.trans hml.symm
  subst hQ
  obtain ⟨f1, f⟩ := f
  refine w_castS (i := 8) (C := "java/util/LinkedList") hx hb hown hk hR f1 (by decide) rfl q677 dX2_copy_91 ?_
  refine w_aload hx hb dX2_copy_94 (lv_v hl (k := 4) rfl rfl) ?_
  refine w_call (mi := mX12_copy) (As := [vR a4]) (rest := [vr b0]) (len := 3) hk hR hL hsz hsB htr hRr (cok_V (i := 22) (C := RX12) (argsL := []) hx hb hown hk hR f.1 (by decide) rfl q2165 q2166 q2167 q2168 kX12_copy.1 kX12_copy.2 rfl dX2_copy_96) f.2 wX12_copy iX12_copy (by decide) (cat_sum _ (Nat.le_of_ble_eq_true rfl)) rfl (fun v h1 H locs f hR hL => ?_) (fun q h9 H locs hp hR hL => x_out hown hlk hR hL (fun x9 h9 => by rw [htb] at h9; exact absurd h9 List.not_mem_nil) ⟨hp.1, hp.2.1⟩ hp.2.2)
  obtain ⟨ra1, rfl, f⟩ := f
  show Wn p l e R s m args below meth c H locs _ (F0 m 99 ls [vr ra1, vr b0])
  refine w_call (mi := mJ21_add) (As := [vR b0, vR ra1]) (rest := []) (len := 3) hk hR hL hsz hsB htr hRr (cok_V (i := 8) (C := RJ21) (argsL := [vr ra1]) hx hb hown hk hR f.1 (by decide) rfl q2171 q1236 q3617 q1238 kJ21_add.1 kJ21_add.2 rfl dX2_copy_99) f.2 wJ21_add iJ21_add (by decide) (cat_sum _ (Nat.le_of_ble_eq_true rfl)) rfl (fun v h2 H locs f hR hL => ?_) (fun q h9 H locs hp hR hL => x_out hown hlk hR hL (fun x9 h9 => by rw [htb] at h9; exact absurd h9 List.not_mem_nil) ⟨hp.1, hp.2.1⟩ hp.2.2)
  obtain ⟨ri2, rfl, f⟩ := f
  show Wn p l e R s m args below meth c H locs _ (F0 m 102 ls [.int ri2])
  refine lv_pop hx hb dX2_copy_102 rfl ?_
  refine lv_goto (tgt := 61) hx hb dX2_copy_103 (by decide) ?_
  exact (hV _ _ _ _).mp f H locs _ hR hL (lv_p hl [0, 1, 2, 3] rfl)
theorem b_X2_copy_120 {G : Wd} {l : Launch} {d : Nat} {post : Option Value → VH → Prop} {xp : Nat → VH → Prop} {V : Nat → List (Nat × VT) → List Value → VH → Prop} {XV : Nat → List (Nat × VT) → Nat → VH → Prop} (C : Ctx G l d mX2_copy post xp V XV) {a0 a1 a2 : Nat} {h : VH}
    (f : ((kd h a2 = 19) ∧ D G l d mJ28_hasNext [vR a2] h (fun v h9 => ∃ x9, v = some (.int x9) ∧ V 126 [(0, vR a0), (1, vR a1), (2, vR a2)] [.int x9] h9) xp) ∨ ((kd h a2 = 20) ∧ D G l d mJ31_hasNext [vR a2] h (fun v h9 => ∃ x9, v = some (.int x9) ∧ V 126 [(0, vR a0), (1, vR a1), (2, vR a2)] [.int x9] h9) xp) ∨ ((kd h a2 = 25) ∧ D G l d mX14_hasNext [vR a2] h (fun v h9 => ∃ x9, v = some (.int x9) ∧ V 126 [(0, vR a0), (1, vR a1), (2, vR a2)] [.int x9] h9) xp)) : V 120 [(0, vR a0), (1, vR a1), (2, vR a2)] [] h := by
  obtain ⟨p, e, R, s, m, args, below, meth, c, Q, ⟨hx, hb, hr, hlk, hml, hown, hk, hRr, htb, hnm, hsB, htr, hQ⟩, hV, hX⟩ := C
  rw [hV]
  intro H locs ls hR hL hl
  have hb : c.code = cX2_copy := hb
  have hr : meth.sig.returnType = some (.object "HintTeam$Table") := hr
  have hml : c.maxLocals = 5 := hml
  have hown : s.vm.findClass RX2 = some m.cls := hown
  have hl : lv_has ls 5 (lm [(0, vR a0), (1, vR a1), (2, vR a2)]) := hl
  have hsz : ls.size = c.maxLocals := hl.1.trans hml.symm
  subst hQ
  refine w_aload_n hx hb dX2_copy_120 rfl (lv_v hl (k := 2) rfl rfl) ?_
  rcases f with f | f
  · exact w_call (mi := mJ28_hasNext) (As := [vR a2]) (rest := []) (len := 5) hk hR hL hsz hsB htr hRr (cok_F (n := 0) (x := ⟨"java/util/Iterator", "hasNext", "()Z"⟩) (i := 18) (C := RJ28) (argsL := []) hx hb hown hk hR f.1 (by decide) rfl ⟨by decide +kernel, by decide +kernel⟩ q2162 q1494 q1493 q1516 q1514 q1512 q1515 q1513 q1517 (by unfold nPar; decide +kernel) rfl dX2_copy_121) f.2 wJ28_hasNext iJ28_hasNext (by decide) (cat_sum _ (Nat.le_of_ble_eq_true rfl)) rfl (fun v h9 H locs hp hR hL => by obtain ⟨z9, rfl, f⟩ := hp; exact (hV _ _ _ _).mp f H locs _ hR hL (lv_p hl [0, 1, 2] rfl)) (fun q h9 H locs hp hR hL => x_out hown hlk hR hL (fun x9 h9 => by rw [htb] at h9; exact absurd h9 List.not_mem_nil) ⟨hp.1, hp.2.1⟩ hp.2.2)
  rcases f with f | f
  · exact w_call (mi := mJ31_hasNext) (As := [vR a2]) (rest := []) (len := 5) hk hR hL hsz hsB htr hRr (cok_F (n := 0) (x := ⟨"java/util/Iterator", "hasNext", "()Z"⟩) (i := 19) (C := RJ31) (argsL := []) hx hb hown hk hR f.1 (by decide) rfl ⟨by decide +kernel, by decide +kernel⟩ q2162 q1494 q1493 q1525 q1523 q1521 q1524 q1522 q1526 (by unfold nPar; decide +kernel) rfl dX2_copy_121) f.2 wJ31_hasNext iJ31_hasNext (by decide) (cat_sum _ (Nat.le_of_ble_eq_true rfl)) rfl (fun v h9 H locs hp hR hL => by obtain ⟨z9, rfl, f⟩ := hp; exact (hV _ _ _ _).mp f H locs _ hR hL (lv_p hl [0, 1, 2] rfl)) (fun q h9 H locs hp hR hL => x_out hown hlk hR hL (fun x9 h9 => by rw [htb] at h9; exact absurd h9 List.not_mem_nil) ⟨hp.1, hp.2.1⟩ hp.2.2)
  exact w_call (mi := mX14_hasNext) (As := [vR a2]) (rest := []) (len := 5) hk hR hL hsz hsB htr hRr (cok_F (n := 0) (x := ⟨"java/util/Iterator", "hasNext", "()Z"⟩) (i := 24) (C := RX14) (argsL := []) hx hb hown hk hR f.1 (by decide) rfl ⟨by decide +kernel, by decide +kernel⟩ q2162 q1494 q1493 q1499 q1497 q1495 q1498 q1496 q1500 (by unfold nPar; decide +kernel) rfl dX2_copy_121) f.2 wX14_hasNext iX14_hasNext (by decide) (cat_sum _ (Nat.le_of_ble_eq_true rfl)) rfl (fun v h9 H locs hp hR hL => by obtain ⟨z9, rfl, f⟩ := hp; exact (hV _ _ _ _).mp f H locs _ hR hL (lv_p hl [0, 1, 2] rfl)) (fun q h9 H locs hp hR hL => x_out hown hlk hR hL (fun x9 h9 => by rw [htb] at h9; exact absurd h9 List.not_mem_nil) ⟨hp.1, hp.2.1⟩ hp.2.2)
theorem b_X2_copy_126 {G : Wd} {l : Launch} {d : Nat} {post : Option Value → VH → Prop} {xp : Nat → VH → Prop} {V : Nat → List (Nat × VT) → List Value → VH → Prop} {XV : Nat → List (Nat × VT) → Nat → VH → Prop} (C : Ctx G l d mX2_copy post xp V XV) {x0 : Int32} {a0 a1 a2 : Nat} {h : VH}
    (f : (x0 = 0 → ((kd h a0 = 2) ∧ ((kd h a1 = 2) ∧ ((kd h (gR h 43 a0) = 200 ∨ kd h (gR h 43 a0) = 300) ∧ (kd h (gR h 43 a1) = 200) ∧ (¬ (jI 0) < 0) ∧ (¬ (jI 0) < 0) ∧ (¬ (jI 4) < 0) ∧ (((jI 0)).toNatClampNeg + ((jI 4)).toNatClampNeg ≤ ln h (gR h 43 a0)) ∧ (((jI 0)).toNatClampNeg + ((jI 4)).toNatClampNeg ≤ ln h (gR h 43 a1)) ∧ ∀ h1 : VH, h1 = acI h (gR h 43 a0) ((jI 0)).toNatClampNeg (gR h 43 a1) ((jI 0)).toNatClampNeg ((jI 4)).toNatClampNeg → ((kd h1 a0 = 2) ∧ ((kd h1 a1 = 2) ∧ ((kd h1 a0 = 2) ∧ ((isArr h1 (gR h1 44 a0)) ∧ ((kd h1 (gR h1 44 a0) = 200 ∨ kd h1 (gR h1 44 a0) = 300) ∧ (kd h1 (gR h1 44 a1) = 200) ∧ (¬ (jI 0) < 0) ∧ (¬ (jI 0) < 0) ∧ (¬ (Int32.ofNat (ln h1 (gR h1 44 a0))) < 0) ∧ (((jI 0)).toNatClampNeg + (Int32.ofNat (ln h1 (gR h1 44 a0))).toNatClampNeg ≤ ln h1 (gR h1 44 a0)) ∧ (((jI 0)).toNatClampNeg + (Int32.ofNat (ln h1 (gR h1 44 a0))).toNatClampNeg ≤ ln h1 (gR h1 44 a1)) ∧ ∀ h2 : VH, h2 = acI h1 (gR h1 44 a0) ((jI 0)).toNatClampNeg (gR h1 44 a1) ((jI 0)).toNatClampNeg (Int32.ofNat (ln h1 (gR h1 44 a0))).toNatClampNeg → (V 184 [(0, vR a0), (1, vR a1), (2, vI (jI 0))] [] h2)))))))))) ∧ (¬ x0 = 0 → (((kd h a2 = 19) ∧ D G l d mJ28_next [vR a2] h (fun v h9 => ∃ b9, v = some (vr b9) ∧ V 135 [(0, vR a0), (1, vR a1), (2, vR a2)] [vr b9] h9) xp) ∨ ((kd h a2 = 20) ∧ D G l d mJ31_next [vR a2] h (fun v h9 => ∃ b9, v = some (vr b9) ∧ V 135 [(0, vR a0), (1, vR a1), (2, vR a2)] [vr b9] h9) xp) ∨ ((kd h a2 = 25) ∧ D G l d mX14_next [vR a2] h (fun v h9 => ∃ b9, v = some (vr b9) ∧ V 135 [(0, vR a0), (1, vR a1), (2, vR a2)] [vr b9] h9) xp)))) : V 126 [(0, vR a0), (1, vR a1), (2, vR a2)] [.int x0] h := by
  obtain ⟨p, e, R, s, m, args, below, meth, c, Q, ⟨hx, hb, hr, hlk, hml, hown, hk, hRr, htb, hnm, hsB, htr, hQ⟩, hV, hX⟩ := C
  rw [hV]
  intro H locs ls hR hL hl
  have hb : c.code = cX2_copy := hb
  have hr : meth.sig.returnType = some (.object "HintTeam$Table") := hr
  have hml : c.maxLocals = 5 := hml
  have hown : s.vm.findClass RX2 = some m.cls := hown
  have hl : lv_has ls 5 (lm [(0, vR a0), (1, vR a1), (2, vR a2)]) := hl
  have hsz : ls.size = c.maxLocals := hl.1.trans hml.symm
  subst hQ
  refine lv_if_eq (tgt := 150) hx hb dX2_copy_126 (by decide) (fun c9 => ?_) (fun c9 => ?_)
  · have f := f.1 c9
    refine w_aload_n hx hb dX2_copy_150 rfl (lv_v hl (k := 0) rfl rfl) ?_
    obtain ⟨f1, f⟩ := f
    refine w_get (i := 1) (k := 3) (v := vr (gR h 43 a0)) hx hb hown hk hR clk_X2 f1 (by decide) (by decide) q713 (fun _ h9 => h9) rfl dX2_copy_151 ?_
    refine w_iconst hx hb dX2_copy_154 ?_
    refine w_aload_n hx hb dX2_copy_155 rfl (lv_v hl (k := 1) rfl rfl) ?_
    obtain ⟨f1, f⟩ := f
    refine w_get (i := 1) (k := 3) (v := vr (gR h 43 a1)) hx hb hown hk hR clk_X2 f1 (by decide) (by decide) q713 (fun _ h9 => h9) rfl dX2_copy_156 ?_
    refine w_iconst hx hb dX2_copy_159 ?_
    refine w_iconst hx hb dX2_copy_160 ?_
    obtain ⟨f1, f2, g1, g2, g3, g4, g5, f⟩ := f
    refine or_k f1 (fun q9 kk => w_copyI (t0 := 0) (t1 := 0) (ty := .int) hx hb hsz.symm hown hk hR hL (by clear f; omega) (by clear f; omega) (cat_sum _ (Nat.le_of_ble_eq_true rfl)) q2172 q482 q481 q168 q9 (by decide) f2 (by decide) rfl rfl rfl g1 g2 g3 g4 g5 (fun _ => rfl) dX2_copy_161 kk) (fun q9 kk => w_copyI (t0 := 100) (t1 := 0) (ty := .int) hx hb hsz.symm hown hk hR hL (by clear f; omega) (by clear f; omega) (cat_sum _ (Nat.le_of_ble_eq_true rfl)) q2172 q482 q481 q168 q9 (by decide) f2 (by decide) rfl rfl rfl g1 g2 g3 g4 g5 (fun _ => rfl) dX2_copy_161 kk) (fun H locs hR hL => ?_)
    obtain ⟨h1, eh1⟩ : ∃ z : VH, z = acI h (gR h 43 a0) ((jI 0)).toNatClampNeg (gR h 43 a1) ((jI 0)).toNatClampNeg ((jI 4)).toNatClampNeg := ⟨_, rfl⟩
    have hR : Rp G h1 H := by rw [eh1]; exact hR
    have f := f h1 eh1
    refine w_aload_n hx hb dX2_copy_164 rfl (lv_v hl (k := 0) rfl rfl) ?_
    obtain ⟨f1, f⟩ := f
    refine w_get (i := 1) (k := 4) (v := vr (gR h1 44 a0)) hx hb hown hk hR clk_X2 f1 (by decide) (by decide) q716 (fun _ h9 => h9) rfl dX2_copy_165 ?_
    refine w_iconst hx hb dX2_copy_168 ?_
    refine w_aload_n hx hb dX2_copy_169 rfl (lv_v hl (k := 1) rfl rfl) ?_
    obtain ⟨f1, f⟩ := f
    refine w_get (i := 1) (k := 4) (v := vr (gR h1 44 a1)) hx hb hown hk hR clk_X2 f1 (by decide) (by decide) q716 (fun _ h9 => h9) rfl dX2_copy_170 ?_
    refine w_iconst hx hb dX2_copy_173 ?_
    refine w_aload_n hx hb dX2_copy_174 rfl (lv_v hl (k := 0) rfl rfl) ?_
    obtain ⟨f1, f⟩ := f
    refine w_get (i := 1) (k := 4) (v := vr (gR h1 44 a0)) hx hb hown hk hR clk_X2 f1 (by decide) (by decide) q716 (fun _ h9 => h9) rfl dX2_copy_175 ?_
    obtain ⟨f1, f⟩ := f
    obtain ⟨t9, ty9, g1, g2, g3⟩ := f1.use
    refine w_alen hx hb hk hR g1 g2 g3 dX2_copy_178 ?_
    obtain ⟨f1, f2, g1, g2, g3, g4, g5, f⟩ := f
    refine or_k f1 (fun q9 kk => w_copyI (t0 := 0) (t1 := 0) (ty := .int) hx hb hsz.symm hown hk hR hL (by clear f; omega) (by clear f; omega) (cat_sum _ (Nat.le_of_ble_eq_true rfl)) q2172 q482 q481 q168 q9 (by decide) f2 (by decide) rfl rfl rfl g1 g2 g3 g4 g5 (fun _ => rfl) dX2_copy_179 kk) (fun q9 kk => w_copyI (t0 := 100) (t1 := 0) (ty := .int) hx hb hsz.symm hown hk hR hL (by clear f; omega) (by clear f; omega) (cat_sum _ (Nat.le_of_ble_eq_true rfl)) q2172 q482 q481 q168 q9 (by decide) f2 (by decide) rfl rfl rfl g1 g2 g3 g4 g5 (fun _ => rfl) dX2_copy_179 kk) (fun H locs hR hL => ?_)
    obtain ⟨h2, eh2⟩ : ∃ z : VH, z = acI h1 (gR h1 44 a0) ((jI 0)).toNatClampNeg (gR h1 44 a1) ((jI 0)).toNatClampNeg (Int32.ofNat (ln h1 (gR h1 44 a0))).toNatClampNeg := ⟨_, rfl⟩
    have hR : Rp G h2 H := by rw [eh2]; exact hR
    have f := f h2 eh2
    refine w_iconst hx hb dX2_copy_182 ?_
    refine w_istore_n (L' := [(2, vI (jI 0)), (0, vR a0), (1, vR a1)]) hx hb dX2_copy_183 rfl hl (by decide) rfl (fun ls hl => ?_)
    have hsz : ls.size = c.maxLocals := hl.1.trans hml.symm
    exact (hV _ _ _ _).mp f H locs _ hR hL (lv_p hl [1, 2, 0] rfl)
  · have f := f.2 c9
    refine w_aload_n hx hb dX2_copy_129 rfl (lv_v hl (k := 2) rfl rfl) ?_
    rcases f with f | f
    · exact w_call (mi := mJ28_next) (As := [vR a2]) (rest := []) (len := 5) hk hR hL hsz hsB htr hRr (cok_F (n := 0) (x := ⟨"java/util/Iterator", "next", "()Ljava/lang/Object;"⟩) (i := 18) (C := RJ28) (argsL := []) hx hb hown hk hR f.1 (by decide) rfl ⟨by decide +kernel, by decide +kernel⟩ q2164 q1530 q1529 q1682 q1680 q1512 q1681 q1679 q1683 (by unfold nPar; decide +kernel) rfl dX2_copy_130) f.2 wJ28_next iJ28_next (by decide) (cat_sum _ (Nat.le_of_ble_eq_true rfl)) rfl (fun v h9 H locs hp hR hL => by obtain ⟨z9, rfl, f⟩ := hp; exact (hV _ _ _ _).mp f H locs _ hR hL (lv_p hl [0, 1, 2] rfl)) (fun q h9 H locs hp hR hL => x_out hown hlk hR hL (fun x9 h9 => by rw [htb] at h9; exact absurd h9 List.not_mem_nil) ⟨hp.1, hp.2.1⟩ hp.2.2)
    rcases f with f | f
    · exact w_call (mi := mJ31_next) (As := [vR a2]) (rest := []) (len := 5) hk hR hL hsz hsB htr hRr (cok_F (n := 0) (x := ⟨"java/util/Iterator", "next", "()Ljava/lang/Object;"⟩) (i := 19) (C := RJ31) (argsL := []) hx hb hown hk hR f.1 (by decide) rfl ⟨by decide +kernel, by decide +kernel⟩ q2164 q1530 q1529 q1695 q1693 q1521 q1694 q1692 q1696 (by unfold nPar; decide +kernel) rfl dX2_copy_130) f.2 wJ31_next iJ31_next (by decide) (cat_sum _ (Nat.le_of_ble_eq_true rfl)) rfl (fun v h9 H locs hp hR hL => by obtain ⟨z9, rfl, f⟩ := hp; exact (hV _ _ _ _).mp f H locs _ hR hL (lv_p hl [0, 1, 2] rfl)) (fun q h9 H locs hp hR hL => x_out hown hlk hR hL (fun x9 h9 => by rw [htb] at h9; exact absurd h9 List.not_mem_nil) ⟨hp.1, hp.2.1⟩ hp.2.2)
    exact w_call (mi := mX14_next) (As := [vR a2]) (rest := []) (len := 5) hk hR hL hsz hsB htr hRr (cok_F (n := 0) (x := ⟨"java/util/Iterator", "next", "()Ljava/lang/Object;"⟩) (i := 24) (C := RX14) (argsL := []) hx hb hown hk hR f.1 (by decide) rfl ⟨by decide +kernel, by decide +kernel⟩ q2164 q1530 q1529 q1534 q1532 q1495 q1533 q1531 q1535 (by unfold nPar; decide +kernel) rfl dX2_copy_130) f.2 wX14_next iX14_next (by decide) (cat_sum _ (Nat.le_of_ble_eq_true rfl)) rfl (fun v h9 H locs hp hR hL => by obtain ⟨z9, rfl, f⟩ := hp; exact (hV _ _ _ _).mp f H locs _ hR hL (lv_p hl [0, 1, 2] rfl)) (fun q h9 H locs hp hR hL => x_out hown hlk hR hL (fun x9 h9 => by rw [htb] at h9; exact absurd h9 List.not_mem_nil) ⟨hp.1, hp.2.1⟩ hp.2.2)
theorem b_X2_copy_135 {G : Wd} {l : Launch} {d : Nat} {post : Option Value → VH → Prop} {xp : Nat → VH → Prop} {V : Nat → List (Nat × VT) → List Value → VH → Prop} {XV : Nat → List (Nat × VT) → Nat → VH → Prop} (C : Ctx G l d mX2_copy post xp V XV) {a0 a1 a2 b0 : Nat} {h : VH}
    (f : (kd h b0 = 200 ∨ kd h b0 = 300) ∧ ((kd h a1 = 2) ∧ ((kd h (gR h 42 a1) = 9) ∧ D G l d mJ21_addLast [vR (gR h 42 a1), vR b0] h (fun v h1 => v = none ∧ (V 120 [(0, vR a0), (1, vR a1), (2, vR a2)] [] h1)) xp))) : V 135 [(0, vR a0), (1, vR a1), (2, vR a2)] [vr b0] h := by
  obtain ⟨p, e, R, s, m, args, below, meth, c, Q, ⟨hx, hb, hr, hlk, hml, hown, hk, hRr, htb, hnm, hsB, htr, hQ⟩, hV, hX⟩ := C
  rw [hV]
  intro H locs ls hR hL hl
  have hb : c.code = cX2_copy := hb
  have hr : meth.sig.returnType = some (.object "HintTeam$Table") := hr
  have hml : c.maxLocals = 5 := hml
  have hown : s.vm.findClass RX2 = some m.cls := hown
  have hl : lv_has ls 5 (lm [(0, vR a0), (1, vR a1), (2, vR a2)]) := hl
  have hsz : ls.size = c.maxLocals := hl.1.trans hml.symm
  subst hQ
  obtain ⟨f1, f⟩ := f
  refine or_k f1 (fun q9 kk => w_castA (t := 0) hx hb hown hk hR q9 (by decide) rfl (hk.k.2 0 _ rfl).2 q699 dX2_copy_135 kk) (fun q9 kk => w_castA (t := 100) hx hb hown hk hR q9 (by decide) rfl (hk.k.2 0 _ rfl).2 q699 dX2_copy_135 kk) ?_
  refine w_astore_n' (L' := [(3, vR b0), (0, vR a0), (1, vR a1), (2, vR a2)]) hx hb dX2_copy_138 rfl hl (by decide) rfl (fun ls hl => ?_)
  have hsz : ls.size = c.maxLocals := hl.1.trans hml.symm
  refine w_aload_n hx hb dX2_copy_139 rfl (lv_v hl (k := 2) rfl rfl) ?_
  obtain ⟨f1, f⟩ := f
  refine w_get (i := 1) (k := 2) (v := vr (gR h 42 a1)) hx hb hown hk hR clk_X2 f1 (by decide) (by decide) q711 (fun _ h9 => h9) rfl dX2_copy_140 ?_
  refine w_aload_n hx hb dX2_copy_143 rfl (lv_v hl (k := 0) rfl rfl) ?_
  refine w_call (mi := mJ21_addLast) (As := [vR (gR h 42 a1), vR b0]) (rest := []) (len := 3) hk hR hL hsz hsB htr hRr (cok_V (i := 8) (C := RJ21) (argsL := [vr b0]) hx hb hown hk hR f.1 (by decide) rfl q2062 q2063 q2064 q2065 kJ21_addLast.1 kJ21_addLast.2 rfl dX2_copy_144) f.2 wJ21_addLast iJ21_addLast (by decide) (cat_sum _ (Nat.le_of_ble_eq_true rfl)) rfl (fun v h1 H locs f hR hL => ?_) (fun q h9 H locs hp hR hL => x_out hown hlk hR hL (fun x9 h9 => by rw [htb] at h9; exact absurd h9 List.not_mem_nil) ⟨hp.1, hp.2.1⟩ hp.2.2)
  obtain ⟨rfl, f⟩ := f
  show Wn p l e R s m args below meth c H locs _ (F0 m 147 ls [])
  refine lv_goto (tgt := 120) hx hb dX2_copy_147 (by decide) ?_
  exact (hV _ _ _ _).mp f H locs _ hR hL (lv_p hl [1, 2, 3] rfl)
theorem b_X2_copy_184 {G : Wd} {l : Launch} {d : Nat} {post : Option Value → VH → Prop} {xp : Nat → VH → Prop} {V : Nat → List (Nat × VT) → List Value → VH → Prop} {XV : Nat → List (Nat × VT) → Nat → VH → Prop} (C : Ctx G l d mX2_copy post xp V XV) {i2 : Int32} {a0 a1 : Nat} {h : VH}
    (f : ((jI 4) ≤ i2 → ((kd h a1 = 2) ∧ ((kd h a0 = 2) ∧ ((isArrR h (gR h 46 a0)) ∧ (vp_in (jI 0) (ln h (gR h 46 a0))) ∧ ((kd h (gR h ((jI 0)).toNatClampNeg (gR h 46 a0)) = 200) ∧ (hz h ≤ wC G) ∧ (hs h + ln h (gR h ((jI 0)).toNatClampNeg (gR h 46 a0)) ≤ wS G) ∧ ∀ h1 : VH, h1 = acl h (gR h ((jI 0)).toNatClampNeg (gR h 46 a0)) → ((kd h1 (hz h) = 200 ∨ kd h1 (hz h) = 300) ∧ ((kd h1 (gR h 46 a1) = 206) ∧ (vp_in (jI 0) (ln h1 (gR h 46 a1))) ∧ (kd h1 (hz h) = 200) ∧ (∀ h2 : VH, h2 = sR h1 ((jI 0)).toNatClampNeg (gR h 46 a1) (hz h) → ((kd h2 a1 = 2) ∧ ((kd h2 a0 = 2) ∧ ((isArrR h2 (gR h2 46 a0)) ∧ (vp_in (jI 1) (ln h2 (gR h2 46 a0))) ∧ ((kd h2 (gR h2 ((jI 1)).toNatClampNeg (gR h2 46 a0)) = 200) ∧ (hz h2 ≤ wC G) ∧ (hs h2 + ln h2 (gR h2 ((jI 1)).toNatClampNeg (gR h2 46 a0)) ≤ wS G) ∧ ∀ h3 : VH, h3 = acl h2 (gR h2 ((jI 1)).toNatClampNeg (gR h2 46 a0)) → ((kd h3 (hz h2) = 200 ∨ kd h3 (hz h2) = 300) ∧ ((kd h3 (gR h2 46 a1) = 206) ∧ (vp_in (jI 1) (ln h3 (gR h2 46 a1))) ∧ (kd h3 (hz h2) = 200) ∧ (∀ h4 : VH, h4 = sR h3 ((jI 1)).toNatClampNeg (gR h2 46 a1) (hz h2) → ((kd h4 a0 = 2) ∧ ((kd h4 a1 = 2) ∧ (∀ h5 : VH, h5 = sI h4 47 a1 (gI h4 47 a0) → ((kd h5 a0 = 2) ∧ ((kd h5 a1 = 2) ∧ (∀ h6 : VH, h6 = sI h5 48 a1 (gI h5 48 a0) → ((kd h6 a0 = 2) ∧ ((kd h6 a1 = 2) ∧ (∀ h7 : VH, h7 = sI h6 49 a1 (gI h6 49 a0) → ((kd h7 a0 = 2) ∧ ((kd h7 a1 = 2) ∧ (∀ h8 : VH, h8 = sI h7 50 a1 (gI h7 50 a0) → ((kd h8 a0 = 2) ∧ ((kd h8 a1 = 2) ∧ (∀ h9 : VH, h9 = sI h8 51 a1 (gI h8 51 a0) → ((kd h9 a0 = 2) ∧ ((kd h9 a1 = 2) ∧ (∀ h10 : VH, h10 = sI h9 52 a1 (gI h9 52 a0) → (post (some (vr a1)) h10)))))))))))))))))))))))))))))))))) ∧ (¬ (jI 4) ≤ i2 → ((kd h a1 = 2) ∧ ((kd h a0 = 2) ∧ ((isArrR h (gR h 45 a0)) ∧ (vp_in i2 (ln h (gR h 45 a0))) ∧ ((kd h (gR h (i2).toNatClampNeg (gR h 45 a0)) = 200) ∧ (hz h ≤ wC G) ∧ (hs h + ln h (gR h (i2).toNatClampNeg (gR h 45 a0)) ≤ wS G) ∧ ∀ h11 : VH, h11 = acl h (gR h (i2).toNatClampNeg (gR h 45 a0)) → ((kd h11 (hz h) = 200 ∨ kd h11 (hz h) = 300) ∧ ((kd h11 (gR h 45 a1) = 206) ∧ (vp_in i2 (ln h11 (gR h 45 a1))) ∧ (kd h11 (hz h) = 200) ∧ (∀ h12 : VH, h12 = sR h11 (i2).toNatClampNeg (gR h 45 a1) (hz h) → (V 184 [(0, vR a0), (1, vR a1), (2, vI (i2 + (jI 1)))] [] h12)))))))))) : V 184 [(0, vR a0), (1, vR a1), (2, vI i2)] [] h := by
  obtain ⟨p, e, R, s, m, args, below, meth, c, Q, ⟨hx, hb, hr, hlk, hml, hown, hk, hRr, htb, hnm, hsB, htr, hQ⟩, hV, hX⟩ := C
  rw [hV]
  intro H locs ls hR hL hl
  have hb : c.code = cX2_copy := hb
  have hr : meth.sig.returnType = some (.object "HintTeam$Table") := hr
  have hml : c.maxLocals = 5 := hml
  have hown : s.vm.findClass RX2 = some m.cls := hown
  have hl : lv_has ls 5 (lm [(0, vR a0), (1, vR a1), (2, vI i2)]) := hl
  have hsz : ls.size = c.maxLocals := hl.1.trans hml.symm
  subst hQ
  refine lv_iload_n hx hb dX2_copy_184 rfl (lv_v hl (k := 2) rfl rfl) ?_
  refine w_iconst hx hb dX2_copy_185 ?_
  refine lv_icmp_ge (tgt := 213) hx hb dX2_copy_186 (by decide) (fun c9 => ?_) (fun c9 => ?_)
  · have f := f.1 c9
    refine w_aload_n hx hb dX2_copy_213 rfl (lv_v hl (k := 1) rfl rfl) ?_
    obtain ⟨f1, f⟩ := f
    refine w_get (i := 1) (k := 6) (v := vr (gR h 46 a1)) hx hb hown hk hR clk_X2 f1 (by decide) (by decide) q720 (fun _ h9 => h9) rfl dX2_copy_214 ?_
    refine w_iconst hx hb dX2_copy_217 ?_
    refine w_aload_n hx hb dX2_copy_218 rfl (lv_v hl (k := 0) rfl rfl) ?_
    obtain ⟨f1, f⟩ := f
    refine w_get (i := 1) (k := 6) (v := vr (gR h 46 a0)) hx hb hown hk hR clk_X2 f1 (by decide) (by decide) q720 (fun _ h9 => h9) rfl dX2_copy_219 ?_
    refine w_iconst hx hb dX2_copy_222 ?_
    obtain ⟨f1, f2, f⟩ := f
    obtain ⟨t9, ty9, g1, g2, g3, g4⟩ := f1.use
    refine w_aald hx hb hk hR g1 g2 g3 g4 f2 dX2_copy_223 ?_
    obtain ⟨f1, f2, f3, f⟩ := f
    refine w_clone (t := 0) (ty := .int) hx hb hsz.symm hown hk hR hRr.2.2.1 hRr.2.2.2.1 (by clear f; omega) (by clear f; omega) (cat_sum _ (Nat.le_of_ble_eq_true rfl)) f1 (by decide) rfl q700 q701 q472 q473 q702 q703 (hk.k.2 0 _ rfl).2 (fun _ _ => rfl) f2 f3 dX2_copy_224 (fun H hR => ?_)
    obtain ⟨h1, eh1⟩ : ∃ z : VH, z = acl h (gR h ((jI 0)).toNatClampNeg (gR h 46 a0)) := ⟨_, rfl⟩
    have hR : Rp G h1 H := by rw [eh1]; exact hR
    have f := f h1 eh1
    obtain ⟨f1, f⟩ := f
    refine or_k f1 (fun q9 kk => w_castA (t := 0) hx hb hown hk hR q9 (by decide) rfl (hk.k.2 0 _ rfl).2 q699 dX2_copy_227 kk) (fun q9 kk => w_castA (t := 100) hx hb hown hk hR q9 (by decide) rfl (hk.k.2 0 _ rfl).2 q699 dX2_copy_227 kk) ?_
    obtain ⟨f1, f2, f3, f⟩ := f
    refine w_aastI hx hb hk hR hL f1 f3 f2 dX2_copy_230 (fun H locs hR hL => ?_)
    obtain ⟨h2, eh2⟩ : ∃ z : VH, z = sR h1 ((jI 0)).toNatClampNeg (gR h 46 a1) (hz h) := ⟨_, rfl⟩
    have hR : Rp G h2 H := by rw [eh2]; exact hR
    have f := f h2 eh2
    refine w_aload_n hx hb dX2_copy_231 rfl (lv_v hl (k := 1) rfl rfl) ?_
    obtain ⟨f1, f⟩ := f
    refine w_get (i := 1) (k := 6) (v := vr (gR h2 46 a1)) hx hb hown hk hR clk_X2 f1 (by decide) (by decide) q720 (fun _ h9 => h9) rfl dX2_copy_232 ?_
    refine w_iconst hx hb dX2_copy_235 ?_
    refine w_aload_n hx hb dX2_copy_236 rfl (lv_v hl (k := 0) rfl rfl) ?_
    obtain ⟨f1, f⟩ := f
    refine w_get (i := 1) (k := 6) (v := vr (gR h2 46 a0)) hx hb hown hk hR clk_X2 f1 (by decide) (by decide) q720 (fun _ h9 => h9) rfl dX2_copy_237 ?_
    refine w_iconst hx hb dX2_copy_240 ?_
    obtain ⟨f1, f2, f⟩ := f
    obtain ⟨t9, ty9, g1, g2, g3, g4⟩ := f1.use
    refine w_aald hx hb hk hR g1 g2 g3 g4 f2 dX2_copy_241 ?_
    obtain ⟨f1, f2, f3, f⟩ := f
    refine w_clone (t := 0) (ty := .int) hx hb hsz.symm hown hk hR hRr.2.2.1 hRr.2.2.2.1 (by clear f; omega) (by clear f; omega) (cat_sum _ (Nat.le_of_ble_eq_true rfl)) f1 (by decide) rfl q700 q701 q472 q473 q702 q703 (hk.k.2 0 _ rfl).2 (fun _ _ => rfl) f2 f3 dX2_copy_242 (fun H hR => ?_)
    obtain ⟨h3, eh3⟩ : ∃ z : VH, z = acl h2 (gR h2 ((jI 1)).toNatClampNeg (gR h2 46 a0)) := ⟨_, rfl⟩
    have hR : Rp G h3 H := by rw [eh3]; exact hR
    have f := f h3 eh3
    obtain ⟨f1, f⟩ := f
    refine or_k f1 (fun q9 kk => w_castA (t := 0) hx hb hown hk hR q9 (by decide) rfl (hk.k.2 0 _ rfl).2 q699 dX2_copy_245 kk) (fun q9 kk => w_castA (t := 100) hx hb hown hk hR q9 (by decide) rfl (hk.k.2 0 _ rfl).2 q699 dX2_copy_245 kk) ?_
    obtain ⟨f1, f2, f3, f⟩ := f
    refine w_aastI hx hb hk hR hL f1 f3 f2 dX2_copy_248 (fun H locs hR hL => ?_)
    obtain ⟨h4, eh4⟩ : ∃ z : VH, z = sR h3 ((jI 1)).toNatClampNeg (gR h2 46 a1) (hz h2) := ⟨_, rfl⟩
    have hR : Rp G h4 H := by rw [eh4]; exact hR
    have f := f h4 eh4
    refine w_aload_n hx hb dX2_copy_249 rfl (lv_v hl (k := 1) rfl rfl) ?_
    refine w_aload_n hx hb dX2_copy_250 rfl (lv_v hl (k := 0) rfl rfl) ?_
    obtain ⟨f1, f⟩ := f
    refine w_get (i := 1) (k := 7) (v := .int (gI h4 47 a0)) hx hb hown hk hR clk_X2 f1 (by decide) (by decide) q722 (fun _ h9 => h9) rfl dX2_copy_251 ?_
    obtain ⟨f1, f⟩ := f
    refine w_put (i := 1) (k := 7) (c1 := cI (h4.1 a1) 47 (gI h4 47 a0)) hx hb hown hk hR hL clk_X2 f1 (by decide) (by decide) q722 (fun _ h9 => h9) rfl ⟨rfl, rfl⟩ rfl (pvI clk_X2 (by decide) rfl rfl) dX2_copy_254 (fun H locs hR hL => ?_)
    obtain ⟨h5, eh5⟩ : ∃ z : VH, z = sI h4 47 a1 (gI h4 47 a0) := ⟨_, rfl⟩
    have hR : Rp G h5 H := by rw [eh5]; exact hR
    have f := f h5 eh5
    refine w_aload_n hx hb dX2_copy_257 rfl (lv_v hl (k := 1) rfl rfl) ?_
    refine w_aload_n hx hb dX2_copy_258 rfl (lv_v hl (k := 0) rfl rfl) ?_
    obtain ⟨f1, f⟩ := f
    refine w_get (i := 1) (k := 8) (v := .int (gI h5 48 a0)) hx hb hown hk hR clk_X2 f1 (by decide) (by decide) q725 (fun _ h9 => h9) rfl dX2_copy_259 ?_
    obtain ⟨f1, f⟩ := f
    refine w_put (i := 1) (k := 8) (c1 := cI (h5.1 a1) 48 (gI h5 48 a0)) hx hb hown hk hR hL clk_X2 f1 (by decide) (by decide) q725 (fun _ h9 => h9) rfl ⟨rfl, rfl⟩ rfl (pvI clk_X2 (by decide) rfl rfl) dX2_copy_262 (fun H locs hR hL => ?_)
    obtain ⟨h6, eh6⟩ : ∃ z : VH, z = sI h5 48 a1 (gI h5 48 a0) := ⟨_, rfl⟩
    have hR : Rp G h6 H := by rw [eh6]; exact hR
    have f := f h6 eh6
    refine w_aload_n hx hb dX2_copy_265 rfl (lv_v hl (k := 1) rfl rfl) ?_
    refine w_aload_n hx hb dX2_copy_266 rfl (lv_v hl (k := 0) rfl rfl) ?_
    obtain ⟨f1, f⟩ := f
    refine w_get (i := 1) (k := 9) (v := .int (gI h6 49 a0)) hx hb hown hk hR clk_X2 f1 (by decide) (by decide) q728 (fun _ h9 => h9) rfl dX2_copy_267 ?_
    obtain ⟨f1, f⟩ := f
    refine w_put (i := 1) (k := 9) (c1 := cI (h6.1 a1) 49 (gI h6 49 a0)) hx hb hown hk hR hL clk_X2 f1 (by decide) (by decide) q728 (fun _ h9 => h9) rfl ⟨rfl, rfl⟩ rfl (pvI clk_X2 (by decide) rfl rfl) dX2_copy_270 (fun H locs hR hL => ?_)
    obtain ⟨h7, eh7⟩ : ∃ z : VH, z = sI h6 49 a1 (gI h6 49 a0) := ⟨_, rfl⟩
    have hR : Rp G h7 H := by rw [eh7]; exact hR
    have f := f h7 eh7
    refine w_aload_n hx hb dX2_copy_273 rfl (lv_v hl (k := 1) rfl rfl) ?_
    refine w_aload_n hx hb dX2_copy_274 rfl (lv_v hl (k := 0) rfl rfl) ?_
    obtain ⟨f1, f⟩ := f
    refine w_get (i := 1) (k := 10) (v := .int (gI h7 50 a0)) hx hb hown hk hR clk_X2 f1 (by decide) (by decide) q731 (fun _ h9 => h9) rfl dX2_copy_275 ?_
    obtain ⟨f1, f⟩ := f
    refine w_put (i := 1) (k := 10) (c1 := cI (h7.1 a1) 50 (gI h7 50 a0)) hx hb hown hk hR hL clk_X2 f1 (by decide) (by decide) q731 (fun _ h9 => h9) rfl ⟨rfl, rfl⟩ rfl (pvI clk_X2 (by decide) rfl rfl) dX2_copy_278 (fun H locs hR hL => ?_)
    obtain ⟨h8, eh8⟩ : ∃ z : VH, z = sI h7 50 a1 (gI h7 50 a0) := ⟨_, rfl⟩
    have hR : Rp G h8 H := by rw [eh8]; exact hR
    have f := f h8 eh8
    refine w_aload_n hx hb dX2_copy_281 rfl (lv_v hl (k := 1) rfl rfl) ?_
    refine w_aload_n hx hb dX2_copy_282 rfl (lv_v hl (k := 0) rfl rfl) ?_
    obtain ⟨f1, f⟩ := f
    refine w_get (i := 1) (k := 11) (v := .int (gI h8 51 a0)) hx hb hown hk hR clk_X2 f1 (by decide) (by decide) q734 (fun _ h9 => h9) rfl dX2_copy_283 ?_
    obtain ⟨f1, f⟩ := f
    refine w_put (i := 1) (k := 11) (c1 := cI (h8.1 a1) 51 (gI h8 51 a0)) hx hb hown hk hR hL clk_X2 f1 (by decide) (by decide) q734 (fun _ h9 => h9) rfl ⟨rfl, rfl⟩ rfl (pvI clk_X2 (by decide) rfl rfl) dX2_copy_286 (fun H locs hR hL => ?_)
    obtain ⟨h9, eh9⟩ : ∃ z : VH, z = sI h8 51 a1 (gI h8 51 a0) := ⟨_, rfl⟩
    have hR : Rp G h9 H := by rw [eh9]; exact hR
    have f := f h9 eh9
    refine w_aload_n hx hb dX2_copy_289 rfl (lv_v hl (k := 1) rfl rfl) ?_
    refine w_aload_n hx hb dX2_copy_290 rfl (lv_v hl (k := 0) rfl rfl) ?_
    obtain ⟨f1, f⟩ := f
    refine w_get (i := 1) (k := 12) (v := .int (gI h9 52 a0)) hx hb hown hk hR clk_X2 f1 (by decide) (by decide) q736 (fun _ h9 => h9) rfl dX2_copy_291 ?_
    obtain ⟨f1, f⟩ := f
    refine w_put (i := 1) (k := 12) (c1 := cI (h9.1 a1) 52 (gI h9 52 a0)) hx hb hown hk hR hL clk_X2 f1 (by decide) (by decide) q736 (fun _ h9 => h9) rfl ⟨rfl, rfl⟩ rfl (pvI clk_X2 (by decide) rfl rfl) dX2_copy_294 (fun H locs hR hL => ?_)
    obtain ⟨h10, eh10⟩ : ∃ z : VH, z = sI h9 52 a1 (gI h9 52 a0) := ⟨_, rfl⟩
    have hR : Rp G h10 H := by rw [eh10]; exact hR
    have f := f h10 eh10
    refine w_aload_n hx hb dX2_copy_297 rfl (lv_v hl (k := 1) rfl rfl) ?_
    exact w_aret hx hb hr (Or.inl ⟨_, rfl⟩) hlk hR hL dX2_copy_298 f
  · have f := f.2 c9
    refine w_aload_n hx hb dX2_copy_189 rfl (lv_v hl (k := 1) rfl rfl) ?_
    obtain ⟨f1, f⟩ := f
    refine w_get (i := 1) (k := 5) (v := vr (gR h 45 a1)) hx hb hown hk hR clk_X2 f1 (by decide) (by decide) q718 (fun _ h9 => h9) rfl dX2_copy_190 ?_
    refine lv_iload_n hx hb dX2_copy_193 rfl (lv_v hl (k := 2) rfl rfl) ?_
    refine w_aload_n hx hb dX2_copy_194 rfl (lv_v hl (k := 0) rfl rfl) ?_
    obtain ⟨f1, f⟩ := f
    refine w_get (i := 1) (k := 5) (v := vr (gR h 45 a0)) hx hb hown hk hR clk_X2 f1 (by decide) (by decide) q718 (fun _ h9 => h9) rfl dX2_copy_195 ?_
    refine lv_iload_n hx hb dX2_copy_198 rfl (lv_v hl (k := 2) rfl rfl) ?_
    obtain ⟨f1, f2, f⟩ := f
    obtain ⟨t9, ty9, g1, g2, g3, g4⟩ := f1.use
    refine w_aald hx hb hk hR g1 g2 g3 g4 f2 dX2_copy_199 ?_
    obtain ⟨f1, f2, f3, f⟩ := f
    refine w_clone (t := 0) (ty := .int) hx hb hsz.symm hown hk hR hRr.2.2.1 hRr.2.2.2.1 (by clear f; omega) (by clear f; omega) (cat_sum _ (Nat.le_of_ble_eq_true rfl)) f1 (by decide) rfl q700 q701 q472 q473 q702 q703 (hk.k.2 0 _ rfl).2 (fun _ _ => rfl) f2 f3 dX2_copy_200 (fun H hR => ?_)
    obtain ⟨h11, eh11⟩ : ∃ z : VH, z = acl h (gR h (i2).toNatClampNeg (gR h 45 a0)) := ⟨_, rfl⟩
    have hR : Rp G h11 H := by rw [eh11]; exact hR
    have f := f h11 eh11
    obtain ⟨f1, f⟩ := f
    refine or_k f1 (fun q9 kk => w_castA (t := 0) hx hb hown hk hR q9 (by decide) rfl (hk.k.2 0 _ rfl).2 q699 dX2_copy_203 kk) (fun q9 kk => w_castA (t := 100) hx hb hown hk hR q9 (by decide) rfl (hk.k.2 0 _ rfl).2 q699 dX2_copy_203 kk) ?_
    obtain ⟨f1, f2, f3, f⟩ := f
    refine w_aastI hx hb hk hR hL f1 f3 f2 dX2_copy_206 (fun H locs hR hL => ?_)
    obtain ⟨h12, eh12⟩ : ∃ z : VH, z = sR h11 (i2).toNatClampNeg (gR h 45 a1) (hz h) := ⟨_, rfl⟩
    have hR : Rp G h12 H := by rw [eh12]; exact hR
    have f := f h12 eh12
    refine w_iinc (L' := [(2, vI (i2 + (jI 1))), (0, vR a0), (1, vR a1)]) hx hb dX2_copy_207 hl (k := 2) rfl (by decide) rfl (fun ls hl => ?_)
    have hsz : ls.size = c.maxLocals := hl.1.trans hml.symm
    refine lv_goto (tgt := 184) hx hb dX2_copy_210 (by decide) ?_
    exact (hV _ _ _ _).mp f H locs _ hR hL (lv_p hl [1, 2, 0] rfl)
theorem b_X2_discard_0 {G : Wd} {l : Launch} {d : Nat} {post : Option Value → VH → Prop} {xp : Nat → VH → Prop} {V : Nat → List (Nat × VT) → List Value → VH → Prop} {XV : Nat → List (Nat × VT) → Nat → VH → Prop} (C : Ctx G l d mX2_discard post xp V XV) {i1 : Int32} {a0 : Nat} {h : VH}
    (f : (kd h a0 = 2) ∧ D G l d mX2_own [vR a0] h (fun v h1 => ∃ ra1, v = some (vr ra1) ∧ ((kd h1 ra1 = 9) ∧ D G l d mJ21_remove [vR ra1, vI i1] h1 (fun v h2 => ∃ ra2, v = some (vr ra2) ∧ ((ra2 = 0 ∨ kd h2 ra2 = 23) ∧ ((kd h2 ra2 = 23) ∧ ((kd h2 a0 = 2) ∧ D G l d mX2_goes [vR a0, vR (gR h2 880 ra2)] h2 (fun v h3 => v = none ∧ ((kd h3 a0 = 2) ∧ ((kd h3 (gR h3 44 a0) = 200 ∨ kd h3 (gR h3 44 a0) = 300) ∧ (vp_in (jI 2) (ln h3 (gR h3 44 a0))) ∧ ((kd h3 (gR h3 44 a0) = 200) ∧ (vp_in (jI 2) (ln h3 (gR h3 44 a0))) ∧ (∀ h4 : VH, h4 = sI h3 ((jI 2)).toNatClampNeg (gR h3 44 a0) ((gI h3 ((jI 2)).toNatClampNeg (gR h3 44 a0)) + (jI 1)) → ((kd h4 a0 = 2) ∧ D G l d mX2_comesBack [vR a0] h4 (fun v h5 => v = none ∧ ((kd h5 (gR h2 880 ra2) = 17) ∧ D G l d mX10_told [vR (gR h2 880 ra2)] h5 (fun v h6 => ∃ ri6, v = some (.int ri6) ∧ ((kd h6 a0 = 2) ∧ D G l d mX2_ends [vR a0, vI (jI 1), vI ri6, vI (jI (-1)), vI (jI 1)] h6 (fun v h7 => v = none ∧ (post none h7)) xp)) xp)) xp)))))) xp)))) xp)) xp) : V 0 [(0, vR a0), (1, vI i1)] [] h := by
  obtain ⟨p, e, R, s, m, args, below, meth, c, Q, ⟨hx, hb, hr, hlk, hml, hown, hk, hRr, htb, hnm, hsB, htr, hQ⟩, hV, hX⟩ := C
  rw [hV]
  intro H locs ls hR hL hl
  have hb : c.code = cX2_discard := hb
  have hr : meth.sig.returnType = none := hr
  have hml : c.maxLocals = 3 := hml
  have hown : s.vm.findClass RX2 = some m.cls := hown
  have hl : lv_has ls 3 (lm [(0, vR a0), (1, vI i1)]) := hl
  have hsz : ls.size = c.maxLocals := hl.1.trans hml.symm
  subst hQ
  refine w_aload_n hx hb dX2_discard_0 rfl (lv_v hl (k := 0) rfl rfl) ?_
  refine w_call (mi := mX2_own) (As := [vR a0]) (rest := []) (len := 3) hk hR hL hsz hsB htr hRr (cok_V (i := 1) (C := RX2) (argsL := []) hx hb hown hk hR f.1 (by decide) rfl q2392 q2117 q2118 q2119 kX2_own.1 kX2_own.2 rfl dX2_discard_1) f.2 wX2_own iX2_own (by decide) (cat_sum _ (Nat.le_of_ble_eq_true rfl)) rfl (fun v h1 H locs f hR hL => ?_) (fun q h9 H locs hp hR hL => x_out hown hlk hR hL (fun x9 h9 => by rw [htb] at h9; exact absurd h9 List.not_mem_nil) ⟨hp.1, hp.2.1⟩ hp.2.2)
  obtain ⟨ra1, rfl, f⟩ := f
  show Wn p l e R s m args below meth c H locs _ (F0 m 4 ls [vr ra1])
  refine lv_iload_n hx hb dX2_discard_4 rfl (lv_v hl (k := 1) rfl rfl) ?_
  refine w_call (mi := mJ21_remove) (As := [vR ra1, vI i1]) (rest := []) (len := 3) hk hR hL hsz hsB htr hRr (cok_V (i := 8) (C := RJ21) (argsL := [.int i1]) hx hb hown hk hR f.1 (by decide) rfl q2393 q2394 q2395 q2396 kJ21_remove.1 kJ21_remove.2 rfl dX2_discard_5) f.2 wJ21_remove iJ21_remove (by decide) (cat_sum _ (Nat.le_of_ble_eq_true rfl)) rfl (fun v h2 H locs f hR hL => ?_) (fun q h9 H locs hp hR hL => x_out hown hlk hR hL (fun x9 h9 => by rw [htb] at h9; exact absurd h9 List.not_mem_nil) ⟨hp.1, hp.2.1⟩ hp.2.2)
  obtain ⟨ra2, rfl, f⟩ := f
  show Wn p l e R s m args below meth c H locs _ (F0 m 8 ls [vr ra2])
  obtain ⟨f1, f⟩ := f
  refine w_castS (i := 22) (C := "HintTeam$Held") hx hb hown hk hR f1 (by decide) rfl q1608 dX2_discard_8 ?_
  obtain ⟨f1, f⟩ := f
  refine w_getN (i := 22) (k := 0) (v := vr (gR h2 880 ra2)) hx hb hown hk hR clk_X12 f1 (by decide) (by decide) q2045 (fun _ h9 => h9) rfl dX2_discard_11 ?_
  refine w_astore_n' (L' := [(2, vR (gR h2 880 ra2)), (0, vR a0), (1, vI i1)]) hx hb dX2_discard_14 rfl hl (by decide) rfl (fun ls hl => ?_)
  have hsz : ls.size = c.maxLocals := hl.1.trans hml.symm
  refine w_aload_n hx hb dX2_discard_15 rfl (lv_v hl (k := 1) rfl rfl) ?_
  refine w_aload_n (a := gR h2 880 ra2) hx hb dX2_discard_16 rfl (lv_v hl (k := 0) rfl rfl) ?_
  refine w_call (mi := mX2_goes) (As := [vR a0, vR (gR h2 880 ra2)]) (rest := []) (len := 3) hk hR hL hsz hsB htr hRr (cok_V (i := 1) (C := RX2) (argsL := [vr (gR h2 880 ra2)]) hx hb hown hk hR f.1 (by decide) rfl q2406 q2408 qs57 q2409 kX2_goes.1 kX2_goes.2 rfl dX2_discard_17) f.2 wX2_goes iX2_goes (by decide) (cat_sum _ (Nat.le_of_ble_eq_true rfl)) rfl (fun v h3 H locs f hR hL => ?_) (fun q h9 H locs hp hR hL => x_out hown hlk hR hL (fun x9 h9 => by rw [htb] at h9; exact absurd h9 List.not_mem_nil) ⟨hp.1, hp.2.1⟩ hp.2.2)
  obtain ⟨rfl, f⟩ := f
  show Wn p l e R s m args below meth c H locs _ (F0 m 20 ls [])
  refine w_aload_n hx hb dX2_discard_20 rfl (lv_v hl (k := 1) rfl rfl) ?_
  obtain ⟨f1, f⟩ := f
  refine w_get (i := 1) (k := 4) (v := vr (gR h3 44 a0)) hx hb hown hk hR clk_X2 f1 (by decide) (by decide) q716 (fun _ h9 => h9) rfl dX2_discard_21 ?_
  refine w_iconst hx hb dX2_discard_24 ?_
  refine lv_dup2_11 hx hb dX2_discard_25 rfl (vr_cat _) ?_
  obtain ⟨f1, f2, f⟩ := f
  refine or_k f1 (fun q9 kk => w_iald (t := 0) hx hb hk hR q9 (by decide) rfl f2 dX2_discard_26 kk) (fun q9 kk => w_iald (t := 100) hx hb hk hR q9 (by decide) rfl f2 dX2_discard_26 kk) ?_
  refine w_iconst hx hb dX2_discard_27 ?_
  refine lv_iadd hx hb dX2_discard_28 ?_
  obtain ⟨f1, f2, f⟩ := f
  refine w_iast hx hb hk hR hL f1 f2 dX2_discard_29 (fun H locs hR hL => ?_)
  obtain ⟨h4, eh4⟩ : ∃ z : VH, z = sI h3 ((jI 2)).toNatClampNeg (gR h3 44 a0) ((gI h3 ((jI 2)).toNatClampNeg (gR h3 44 a0)) + (jI 1)) := ⟨_, rfl⟩
  have hR : Rp G h4 H := by rw [eh4]; exact hR
  have f := f h4 eh4
  refine w_aload_n hx hb dX2_discard_30 rfl (lv_v hl (k := 1) rfl rfl) ?_
  refine w_call (mi := mX2_comesBack) (As := [vR a0]) (rest := []) (len := 3) hk hR hL hsz hsB htr hRr (cok_V (i := 1) (C := RX2) (argsL := []) hx hb hown hk hR f.1 (by decide) rfl q2402 q2404 qs56 q2405 kX2_comesBack.1 kX2_comesBack.2 rfl dX2_discard_31) f.2 wX2_comesBack iX2_comesBack (by decide) (cat_sum _ (Nat.le_of_ble_eq_true rfl)) rfl (fun v h5 H locs f hR hL => ?_) (fun q h9 H locs hp hR hL => x_out hown hlk hR hL (fun x9 h9 => by rw [htb] at h9; exact absurd h9 List.not_mem_nil) ⟨hp.1, hp.2.1⟩ hp.2.2)
  obtain ⟨rfl, f⟩ := f
  show Wn p l e R s m args below meth c H locs _ (F0 m 34 ls [])
  refine w_aload_n hx hb dX2_discard_34 rfl (lv_v hl (k := 1) rfl rfl) ?_
  refine w_iconst hx hb dX2_discard_35 ?_
  refine w_aload_n (a := gR h2 880 ra2) hx hb dX2_discard_36 rfl (lv_v hl (k := 0) rfl rfl) ?_
  refine w_call (mi := mX10_told) (As := [vR (gR h2 880 ra2)]) (rest := [.int (jI 1), vr a0]) (len := 3) hk hR hL hsz hsB htr hRr (cok_V (i := 16) (C := RX10) (argsL := []) hx hb hown hk hR f.1 (by decide) rfl q2415 q1704 q1705 q1706 kX10_told.1 kX10_told.2 rfl dX2_discard_37) f.2 wX10_told iX10_told (by decide) (cat_sum _ (Nat.le_of_ble_eq_true rfl)) rfl (fun v h6 H locs f hR hL => ?_) (fun q h9 H locs hp hR hL => x_out hown hlk hR hL (fun x9 h9 => by rw [htb] at h9; exact absurd h9 List.not_mem_nil) ⟨hp.1, hp.2.1⟩ hp.2.2)
  obtain ⟨ri6, rfl, f⟩ := f
  show Wn p l e R s m args below meth c H locs _ (F0 m 40 ls [.int ri6, .int (jI 1), vr a0])
  refine w_iconst hx hb dX2_discard_40 ?_
  refine w_iconst hx hb dX2_discard_41 ?_
  refine w_call (mi := mX2_ends) (As := [vR a0, vI (jI 1), vI ri6, vI (jI (-1)), vI (jI 1)]) (rest := []) (len := 3) hk hR hL hsz hsB htr hRr (cok_V (i := 1) (C := RX2) (argsL := [.int (jI 1), .int ri6, .int (jI (-1)), .int (jI 1)]) hx hb hown hk hR f.1 (by decide) rfl q2192 q2194 qs41 q2195 kX2_ends.1 kX2_ends.2 rfl dX2_discard_42) f.2 wX2_ends iX2_ends (by decide) (cat_sum _ (Nat.le_of_ble_eq_true rfl)) rfl (fun v h7 H locs f hR hL => ?_) (fun q h9 H locs hp hR hL => x_out hown hlk hR hL (fun x9 h9 => by rw [htb] at h9; exact absurd h9 List.not_mem_nil) ⟨hp.1, hp.2.1⟩ hp.2.2)
  obtain ⟨rfl, f⟩ := f
  show Wn p l e R s m args below meth c H locs _ (F0 m 45 ls [])
  exact w_vret hx hb hr hlk hR hL dX2_discard_45 f
theorem t_X2_discard {G : Wd} {l : Launch} {d : Nat} {post : Option Value → VH → Prop} {xp : Nat → VH → Prop} {i1 : Int32} {a0 : Nat} {h : VH} (hd : 9 ≤ d)
    (f : (kd h a0 = 2) ∧ D G l (d - 1) mX2_own [vR a0] h (fun v h1 => ∃ ra1, v = some (vr ra1) ∧ ((kd h1 ra1 = 9) ∧ D G l (d - 1) mJ21_remove [vR ra1, vI i1] h1 (fun v h2 => ∃ ra2, v = some (vr ra2) ∧ ((ra2 = 0 ∨ kd h2 ra2 = 23) ∧ ((kd h2 ra2 = 23) ∧ ((kd h2 a0 = 2) ∧ D G l (d - 1) mX2_goes [vR a0, vR (gR h2 880 ra2)] h2 (fun v h3 => v = none ∧ ((kd h3 a0 = 2) ∧ ((kd h3 (gR h3 44 a0) = 200 ∨ kd h3 (gR h3 44 a0) = 300) ∧ (vp_in (jI 2) (ln h3 (gR h3 44 a0))) ∧ ((kd h3 (gR h3 44 a0) = 200) ∧ (vp_in (jI 2) (ln h3 (gR h3 44 a0))) ∧ (∀ h4 : VH, h4 = sI h3 ((jI 2)).toNatClampNeg (gR h3 44 a0) ((gI h3 ((jI 2)).toNatClampNeg (gR h3 44 a0)) + (jI 1)) → ((kd h4 a0 = 2) ∧ D G l (d - 1) mX2_comesBack [vR a0] h4 (fun v h5 => v = none ∧ ((kd h5 (gR h2 880 ra2) = 17) ∧ D G l (d - 1) mX10_told [vR (gR h2 880 ra2)] h5 (fun v h6 => ∃ ri6, v = some (.int ri6) ∧ ((kd h6 a0 = 2) ∧ D G l (d - 1) mX2_ends [vR a0, vI (jI 1), vI ri6, vI (jI (-1)), vI (jI 1)] h6 (fun v h7 => v = none ∧ (post none h7)) xp)) xp)) xp)))))) xp)))) xp)) xp) : D G l d mX2_discard [vR a0, vI i1] h post xp := D_in hd rfl rfl fun V XV C => b_X2_discard_0 C f
theorem b_X2_draws_0 {G : Wd} {l : Launch} {d : Nat} {post : Option Value → VH → Prop} {xp : Nat → VH → Prop} {V : Nat → List (Nat × VT) → List Value → VH → Prop} {XV : Nat → List (Nat × VT) → Nat → VH → Prop} (C : Ctx G l d mX2_draws post xp V XV) {i1 : Int32} {a0 : Nat} {h : VH}
    (f : (kd h a0 = 2) ∧ ((kd h a0 = 2) ∧ ((kd h (gR h 40 a0) = 3) ∧ (((kd h (gR h 87 (gR h 40 a0)) = 4) ∧ D G l d mJ2_size [vR (gR h 87 (gR h 40 a0))] h (fun v h9 => ∃ x9, v = some (.int x9) ∧ V 16 [(0, vR a0), (1, vI i1)] [.int x9, .int (gI h 47 a0)] h9) xp) ∨ ((kd h (gR h 87 (gR h 40 a0)) = 9) ∧ D G l d mJ21_size [vR (gR h 87 (gR h 40 a0))] h (fun v h9 => ∃ x9, v = some (.int x9) ∧ V 16 [(0, vR a0), (1, vI i1)] [.int x9, .int (gI h 47 a0)] h9) xp))))) : V 0 [(0, vR a0), (1, vI i1)] [] h := by
  obtain ⟨p, e, R, s, m, args, below, meth, c, Q, ⟨hx, hb, hr, hlk, hml, hown, hk, hRr, htb, hnm, hsB, htr, hQ⟩, hV, hX⟩ := C
  rw [hV]
  intro H locs ls hR hL hl
  have hb : c.code = cX2_draws := hb
  have hr : meth.sig.returnType = none := hr
  have hml : c.maxLocals = 2 := hml
  have hown : s.vm.findClass RX2 = some m.cls := hown
  have hl : lv_has ls 2 (lm [(0, vR a0), (1, vI i1)]) := hl
  have hsz : ls.size = c.maxLocals := hl.1.trans hml.symm
  subst hQ
  refine w_aload_n hx hb dX2_draws_0 rfl (lv_v hl (k := 0) rfl rfl) ?_
  obtain ⟨f1, f⟩ := f
  refine w_get (i := 1) (k := 7) (v := .int (gI h 47 a0)) hx hb hown hk hR clk_X2 f1 (by decide) (by decide) q722 (fun _ h9 => h9) rfl dX2_draws_1 ?_
  refine w_aload_n hx hb dX2_draws_4 rfl (lv_v hl (k := 0) rfl rfl) ?_
  obtain ⟨f1, f⟩ := f
  refine w_get (i := 1) (k := 0) (v := vr (gR h 40 a0)) hx hb hown hk hR clk_X2 f1 (by decide) (by decide) q704 (fun _ h9 => h9) rfl dX2_draws_5 ?_
  obtain ⟨f1, f⟩ := f
  refine w_getN (i := 2) (k := 7) (v := vr (gR h 87 (gR h 40 a0))) hx hb hown hk hR clk_X3 f1 (by decide) (by decide) q317 (fun _ h9 => h9) rfl dX2_draws_8 ?_
  rcases f with f | f
  · exact w_call (mi := mJ2_size) (As := [vR (gR h 87 (gR h 40 a0))]) (rest := [.int (gI h 47 a0)]) (len := 5) hk hR hL hsz hsB htr hRr (cok_F (n := 0) (x := ⟨"java/util/List", "size", "()I"⟩) (i := 3) (C := RJ2) (argsL := []) hx hb hown hk hR f.1 (by decide) rfl ⟨by decide +kernel, by decide +kernel⟩ q2036 q1133 q1132 q1138 q1136 q1134 q1137 q1135 q1139 (by unfold nPar; decide +kernel) rfl dX2_draws_11) f.2 wJ2_size iJ2_size (by decide) (cat_sum _ (Nat.le_of_ble_eq_true rfl)) rfl (fun v h9 H locs hp hR hL => by obtain ⟨z9, rfl, f⟩ := hp; exact (hV _ _ _ _).mp f H locs _ hR hL (lv_p hl [0, 1] rfl)) (fun q h9 H locs hp hR hL => x_out hown hlk hR hL (fun x9 h9 => by rw [htb] at h9; exact absurd h9 List.not_mem_nil) ⟨hp.1, hp.2.1⟩ hp.2.2)
  exact w_call (mi := mJ21_size) (As := [vR (gR h 87 (gR h 40 a0))]) (rest := [.int (gI h 47 a0)]) (len := 5) hk hR hL hsz hsB htr hRr (cok_F (n := 0) (x := ⟨"java/util/List", "size", "()I"⟩) (i := 8) (C := RJ21) (argsL := []) hx hb hown hk hR f.1 (by decide) rfl ⟨by decide +kernel, by decide +kernel⟩ q2036 q1133 q1132 q1144 q1142 q1140 q1143 q1141 q1145 (by unfold nPar; decide +kernel) rfl dX2_draws_11) f.2 wJ21_size iJ21_size (by decide) (cat_sum _ (Nat.le_of_ble_eq_true rfl)) rfl (fun v h9 H locs hp hR hL => by obtain ⟨z9, rfl, f⟩ := hp; exact (hV _ _ _ _).mp f H locs _ hR hL (lv_p hl [0, 1] rfl)) (fun q h9 H locs hp hR hL => x_out hown hlk hR hL (fun x9 h9 => by rw [htb] at h9; exact absurd h9 List.not_mem_nil) ⟨hp.1, hp.2.1⟩ hp.2.2)
theorem b_X2_draws_16 {G : Wd} {l : Launch} {d : Nat} {post : Option Value → VH → Prop} {xp : Nat → VH → Prop} {V : Nat → List (Nat × VT) → List Value → VH → Prop} {XV : Nat → List (Nat × VT) → Nat → VH → Prop} (C : Ctx G l d mX2_draws post xp V XV) {i1 x0 x1 : Int32} {a0 : Nat} {h : VH}
    (f : (¬ x0 = x1 → ((kd h a0 = 2) ∧ (((kd h (gR h 41 a0) = 4) ∧ D G l d mJ2_get [vR (gR h 41 a0), vI i1] h (fun v h9 => ∃ b9, v = some (vr b9) ∧ V 30 [(0, vR a0)] [vr b9] h9) xp) ∨ ((kd h (gR h 41 a0) = 9) ∧ D G l d mJ21_get [vR (gR h 41 a0), vI i1] h (fun v h9 => ∃ b9, v = some (vr b9) ∧ V 30 [(0, vR a0)] [vr b9] h9) xp)))) ∧ (x0 = x1 → (post none h))) : V 16 [(0, vR a0), (1, vI i1)] [.int x1, .int x0] h := by
  obtain ⟨p, e, R, s, m, args, below, meth, c, Q, ⟨hx, hb, hr, hlk, hml, hown, hk, hRr, htb, hnm, hsB, htr, hQ⟩, hV, hX⟩ := C
  rw [hV]
  intro H locs ls hR hL hl
  have hb : c.code = cX2_draws := hb
  have hr : meth.sig.returnType = none := hr
  have hml : c.maxLocals = 2 := hml
  have hown : s.vm.findClass RX2 = some m.cls := hown
  have hl : lv_has ls 2 (lm [(0, vR a0), (1, vI i1)]) := hl
  have hsz : ls.size = c.maxLocals := hl.1.trans hml.symm
  subst hQ
  refine lv_icmp_ne (tgt := 20) hx hb dX2_draws_16 (by decide) (fun c9 => ?_) (fun c9 => ?_)
  · have f := f.1 c9
    refine w_aload_n hx hb dX2_draws_20 rfl (lv_v hl (k := 0) rfl rfl) ?_
    obtain ⟨f1, f⟩ := f
    refine w_get (i := 1) (k := 1) (v := vr (gR h 41 a0)) hx hb hown hk hR clk_X2 f1 (by decide) (by decide) q708 (fun _ h9 => h9) rfl dX2_draws_21 ?_
    refine lv_iload_n hx hb dX2_draws_24 rfl (lv_v hl (k := 1) rfl rfl) ?_
    rcases f with f | f
    · exact w_call (mi := mJ2_get) (As := [vR (gR h 41 a0), vI i1]) (rest := []) (len := 5) hk hR hL hsz hsB htr hRr (cok_F (n := 1) (x := ⟨"java/util/List", "get", "(I)Ljava/lang/Object;"⟩) (i := 3) (C := RJ2) (argsL := [.int i1]) hx hb hown hk hR f.1 (by decide) rfl ⟨by decide +kernel, by decide +kernel⟩ q1605 q1300 q1299 q1304 q1302 q1134 q1303 q1301 q1305 (by unfold nPar; decide +kernel) rfl dX2_draws_25) f.2 wJ2_get iJ2_get (by decide) (cat_sum _ (Nat.le_of_ble_eq_true rfl)) rfl (fun v h9 H locs hp hR hL => by obtain ⟨z9, rfl, f⟩ := hp; exact (hV _ _ _ _).mp f H locs _ hR hL (lv_p hl [0] rfl)) (fun q h9 H locs hp hR hL => x_out hown hlk hR hL (fun x9 h9 => by rw [htb] at h9; exact absurd h9 List.not_mem_nil) ⟨hp.1, hp.2.1⟩ hp.2.2)
    exact w_call (mi := mJ21_get) (As := [vR (gR h 41 a0), vI i1]) (rest := []) (len := 5) hk hR hL hsz hsB htr hRr (cok_F (n := 1) (x := ⟨"java/util/List", "get", "(I)Ljava/lang/Object;"⟩) (i := 8) (C := RJ21) (argsL := [.int i1]) hx hb hown hk hR f.1 (by decide) rfl ⟨by decide +kernel, by decide +kernel⟩ q1605 q1300 q1299 q1317 q1315 q1140 q1316 q1314 q1318 (by unfold nPar; decide +kernel) rfl dX2_draws_25) f.2 wJ21_get iJ21_get (by decide) (cat_sum _ (Nat.le_of_ble_eq_true rfl)) rfl (fun v h9 H locs hp hR hL => by obtain ⟨z9, rfl, f⟩ := hp; exact (hV _ _ _ _).mp f H locs _ hR hL (lv_p hl [0] rfl)) (fun q h9 H locs hp hR hL => x_out hown hlk hR hL (fun x9 h9 => by rw [htb] at h9; exact absurd h9 List.not_mem_nil) ⟨hp.1, hp.2.1⟩ hp.2.2)
  · have f := f.2 c9
    exact w_vret hx hb hr hlk hR hL dX2_draws_19 f
theorem b_X2_draws_30 {G : Wd} {l : Launch} {d : Nat} {post : Option Value → VH → Prop} {xp : Nat → VH → Prop} {V : Nat → List (Nat × VT) → List Value → VH → Prop} {XV : Nat → List (Nat × VT) → Nat → VH → Prop} (C : Ctx G l d mX2_draws post xp V XV) {a0 b0 : Nat} {h : VH}
    (f : (b0 = 0 ∨ kd h b0 = 9) ∧ ((hz h ≤ wC G) ∧ (hs h + 4 ≤ wS G) ∧ (∀ h1 : VH, h1 = al h 23 0 4 → ((kd h1 a0 = 2) ∧ ((kd h1 (gR h1 40 a0) = 3) ∧ ((kd h1 a0 = 2) ∧ (((kd h1 (gR h1 87 (gR h1 40 a0)) = 4) ∧ D G l d mJ2_get [vR (gR h1 87 (gR h1 40 a0)), vI (gI h1 47 a0)] h1 (fun v h9 => ∃ b9, v = some (vr b9) ∧ V 53 [(0, vR a0)] [vr b9, vr (hz h), vr (hz h), vr b0] h9) xp) ∨ ((kd h1 (gR h1 87 (gR h1 40 a0)) = 9) ∧ D G l d mJ21_get [vR (gR h1 87 (gR h1 40 a0)), vI (gI h1 47 a0)] h1 (fun v h9 => ∃ b9, v = some (vr b9) ∧ V 53 [(0, vR a0)] [vr b9, vr (hz h), vr (hz h), vr b0] h9) xp)))))))) : V 30 [(0, vR a0)] [vr b0] h := by
  obtain ⟨p, e, R, s, m, args, below, meth, c, Q, ⟨hx, hb, hr, hlk, hml, hown, hk, hRr, htb, hnm, hsB, htr, hQ⟩, hV, hX⟩ := C
  rw [hV]
  intro H locs ls hR hL hl
  have hb : c.code = cX2_draws := hb
  have hr : meth.sig.returnType = none := hr
  have hml : c.maxLocals = 2 := hml
  have hown : s.vm.findClass RX2 = some m.cls := hown
  have hl : lv_has ls 2 (lm [(0, vR a0)]) := hl
  have hsz : ls.size = c.maxLocals := hl.1.trans hml.symm
  subst hQ
  obtain ⟨f1, f⟩ := f
  refine w_castS (i := 8) (C := "java/util/LinkedList") hx hb hown hk hR f1 (by decide) rfl q677 dX2_draws_30 ?_
  obtain ⟨f1, f2, f⟩ := f
  refine w_new hx hb hown hk hR hL hRr.2.2.1 hRr.2.2.2.1 hsB clk_X12 q1608 q2037 q200 f1 f2 (fun k hk => by match k, hk with | 0, _ => rfl | 1, _ => rfl | 2, _ => rfl | 3, _ => rfl | k + 4, hk => exact absurd hk (by omega)) (by decide) (by decide) dX2_draws_33 (fun H hR => ?_)
  obtain ⟨h1, eh1⟩ : ∃ z : VH, z = al h 23 0 4 := ⟨_, rfl⟩
  have hR : Rp G h1 H := by rw [eh1]; exact hR
  have f := f h1 eh1
  refine lv_dup hx hb dX2_draws_36 (vr_cat _) ?_
  refine w_aload_n hx hb dX2_draws_37 rfl (lv_v hl (k := 0) rfl rfl) ?_
  obtain ⟨f1, f⟩ := f
  refine w_get (i := 1) (k := 0) (v := vr (gR h1 40 a0)) hx hb hown hk hR clk_X2 f1 (by decide) (by decide) q704 (fun _ h9 => h9) rfl dX2_draws_38 ?_
  obtain ⟨f1, f⟩ := f
  refine w_getN (i := 2) (k := 7) (v := vr (gR h1 87 (gR h1 40 a0))) hx hb hown hk hR clk_X3 f1 (by decide) (by decide) q317 (fun _ h9 => h9) rfl dX2_draws_41 ?_
  refine w_aload_n hx hb dX2_draws_44 rfl (lv_v hl (k := 0) rfl rfl) ?_
  obtain ⟨f1, f⟩ := f
  refine w_get (i := 1) (k := 7) (v := .int (gI h1 47 a0)) hx hb hown hk hR clk_X2 f1 (by decide) (by decide) q722 (fun _ h9 => h9) rfl dX2_draws_45 ?_
  rcases f with f | f
  · exact w_call (mi := mJ2_get) (As := [vR (gR h1 87 (gR h1 40 a0)), vI (gI h1 47 a0)]) (rest := [vr (hz h), vr (hz h), vr b0]) (len := 5) hk hR hL hsz hsB htr hRr (cok_F (n := 1) (x := ⟨"java/util/List", "get", "(I)Ljava/lang/Object;"⟩) (i := 3) (C := RJ2) (argsL := [.int (gI h1 47 a0)]) hx hb hown hk hR f.1 (by decide) rfl ⟨by decide +kernel, by decide +kernel⟩ q1605 q1300 q1299 q1304 q1302 q1134 q1303 q1301 q1305 (by unfold nPar; decide +kernel) rfl dX2_draws_48) f.2 wJ2_get iJ2_get (by decide) (cat_sum _ (Nat.le_of_ble_eq_true rfl)) rfl (fun v h9 H locs hp hR hL => by obtain ⟨z9, rfl, f⟩ := hp; exact (hV _ _ _ _).mp f H locs _ hR hL (lv_p hl [0] rfl)) (fun q h9 H locs hp hR hL => x_out hown hlk hR hL (fun x9 h9 => by rw [htb] at h9; exact absurd h9 List.not_mem_nil) ⟨hp.1, hp.2.1⟩ hp.2.2)
  exact w_call (mi := mJ21_get) (As := [vR (gR h1 87 (gR h1 40 a0)), vI (gI h1 47 a0)]) (rest := [vr (hz h), vr (hz h), vr b0]) (len := 5) hk hR hL hsz hsB htr hRr (cok_F (n := 1) (x := ⟨"java/util/List", "get", "(I)Ljava/lang/Object;"⟩) (i := 8) (C := RJ21) (argsL := [.int (gI h1 47 a0)]) hx hb hown hk hR f.1 (by decide) rfl ⟨by decide +kernel, by decide +kernel⟩ q1605 q1300 q1299 q1317 q1315 q1140 q1316 q1314 q1318 (by unfold nPar; decide +kernel) rfl dX2_draws_48) f.2 wJ21_get iJ21_get (by decide) (cat_sum _ (Nat.le_of_ble_eq_true rfl)) rfl (fun v h9 H locs hp hR hL => by obtain ⟨z9, rfl, f⟩ := hp; exact (hV _ _ _ _).mp f H locs _ hR hL (lv_p hl [0] rfl)) (fun q h9 H locs hp hR hL => x_out hown hlk hR hL (fun x9 h9 => by rw [htb] at h9; exact absurd h9 List.not_mem_nil) ⟨hp.1, hp.2.1⟩ hp.2.2)
theorem b_X2_draws_53 {G : Wd} {l : Launch} {d : Nat} {post : Option Value → VH → Prop} {xp : Nat → VH → Prop} {V : Nat → List (Nat × VT) → List Value → VH → Prop} {XV : Nat → List (Nat × VT) → Nat → VH → Prop} (C : Ctx G l d mX2_draws post xp V XV) {a0 b0 b1 b2 b3 : Nat} {h : VH}
    (f : (b3 = 0 ∨ kd h b3 = 17) ∧ ((kd h a0 = 2) ∧ ((kd h (gR h 40 a0) = 3) ∧ ((kd h a0 = 2) ∧ ((kd h (gR h 40 a0) = 3) ∧ (b2 ≠ 0 ∧ D G l d mX12_init [vR b2, vR b3, vI ((jshl (jI 1) (gI h 80 (gR h 40 a0))) - (jI 1)), vI ((jshl (jI 1) (gI h 81 (gR h 40 a0))) - (jI 1))] h (fun v h1 => v = none ∧ ((kd h1 b0 = 9) ∧ D G l d mJ21_addLast [vR b0, vR b1] h1 (fun v h2 => v = none ∧ ((kd h2 a0 = 2) ∧ ((kd h2 a0 = 2) ∧ (∀ h3 : VH, h3 = sI h2 47 a0 ((gI h2 47 a0) + (jI 1)) → (post none h3))))) xp)) xp)))))) : V 53 [(0, vR a0)] [vr b3, vr b2, vr b1, vr b0] h := by
  obtain ⟨p, e, R, s, m, args, below, meth, c, Q, ⟨hx, hb, hr, hlk, hml, hown, hk, hRr, htb, hnm, hsB, htr, hQ⟩, hV, hX⟩ := C
  rw [hV]
  intro H locs ls hR hL hl
  have hb : c.code = cX2_draws := hb
  have hr : meth.sig.returnType = none := hr
  have hml : c.maxLocals = 2 := hml
  have hown : s.vm.findClass RX2 = some m.cls := hown
  have hl : lv_has ls 2 (lm [(0, vR a0)]) := hl
  have hsz : ls.size = c.maxLocals := hl.1.trans hml.symm
  subst hQ
  obtain ⟨f1, f⟩ := f
  refine w_castS (i := 16) (C := "HintTeam$Card") hx hb hown hk hR f1 (by decide) rfl q2038 dX2_draws_53 ?_
  refine w_iconst hx hb dX2_draws_56 ?_
  refine w_aload_n hx hb dX2_draws_57 rfl (lv_v hl (k := 0) rfl rfl) ?_
  obtain ⟨f1, f⟩ := f
  refine w_get (i := 1) (k := 0) (v := vr (gR h 40 a0)) hx hb hown hk hR clk_X2 f1 (by decide) (by decide) q704 (fun _ h9 => h9) rfl dX2_draws_58 ?_
  obtain ⟨f1, f⟩ := f
  refine w_getN (i := 2) (k := 0) (v := .int (gI h 80 (gR h 40 a0))) hx hb hown hk hR clk_X3 f1 (by decide) (by decide) q288 (fun _ h9 => h9) rfl dX2_draws_61 ?_
  refine w_ishl hx hb dX2_draws_64 ?_
  refine w_iconst hx hb dX2_draws_65 ?_
  refine lv_isub hx hb dX2_draws_66 ?_
  refine w_iconst hx hb dX2_draws_67 ?_
  refine w_aload_n hx hb dX2_draws_68 rfl (lv_v hl (k := 0) rfl rfl) ?_
  obtain ⟨f1, f⟩ := f
  refine w_get (i := 1) (k := 0) (v := vr (gR h 40 a0)) hx hb hown hk hR clk_X2 f1 (by decide) (by decide) q704 (fun _ h9 => h9) rfl dX2_draws_69 ?_
  obtain ⟨f1, f⟩ := f
  refine w_getN (i := 2) (k := 1) (v := .int (gI h 81 (gR h 40 a0))) hx hb hown hk hR clk_X3 f1 (by decide) (by decide) q293 (fun _ h9 => h9) rfl dX2_draws_72 ?_
  refine w_ishl hx hb dX2_draws_75 ?_
  refine w_iconst hx hb dX2_draws_76 ?_
  refine lv_isub hx hb dX2_draws_77 ?_
  refine w_call (mi := mX12_init) (As := [vR b2, vR b3, vI ((jshl (jI 1) (gI h 80 (gR h 40 a0))) - (jI 1)), vI ((jshl (jI 1) (gI h 81 (gR h 40 a0))) - (jI 1))]) (rest := [vr b1, vr b0]) (len := 3) hk hR hL hsz hsB htr hRr (cok_I (argsL := [vr b3, .int ((jshl (jI 1) (gI h 80 (gR h 40 a0))) - (jI 1)), .int ((jshl (jI 1) (gI h 81 (gR h 40 a0))) - (jI 1))]) hx hb hown hk f.1 rfl q2039 q2040 q2041 kX12_init.1 kX12_init.2 rfl dX2_draws_78) f.2 wX12_init iX12_init (by decide) (cat_sum _ (Nat.le_of_ble_eq_true rfl)) rfl (fun v h1 H locs f hR hL => ?_) (fun q h9 H locs hp hR hL => x_out hown hlk hR hL (fun x9 h9 => by rw [htb] at h9; exact absurd h9 List.not_mem_nil) ⟨hp.1, hp.2.1⟩ hp.2.2)
  obtain ⟨rfl, f⟩ := f
  show Wn p l e R s m args below meth c H locs _ (F0 m 81 ls [vr b1, vr b0])
  refine w_call (mi := mJ21_addLast) (As := [vR b0, vR b1]) (rest := []) (len := 3) hk hR hL hsz hsB htr hRr (cok_V (i := 8) (C := RJ21) (argsL := [vr b1]) hx hb hown hk hR f.1 (by decide) rfl q2062 q2063 q2064 q2065 kJ21_addLast.1 kJ21_addLast.2 rfl dX2_draws_81) f.2 wJ21_addLast iJ21_addLast (by decide) (cat_sum _ (Nat.le_of_ble_eq_true rfl)) rfl (fun v h2 H locs f hR hL => ?_) (fun q h9 H locs hp hR hL => x_out hown hlk hR hL (fun x9 h9 => by rw [htb] at h9; exact absurd h9 List.not_mem_nil) ⟨hp.1, hp.2.1⟩ hp.2.2)
  obtain ⟨rfl, f⟩ := f
  show Wn p l e R s m args below meth c H locs _ (F0 m 84 ls [])
  refine w_aload_n hx hb dX2_draws_84 rfl (lv_v hl (k := 0) rfl rfl) ?_
  refine lv_dup hx hb dX2_draws_85 (vr_cat _) ?_
  obtain ⟨f1, f⟩ := f
  refine w_get (i := 1) (k := 7) (v := .int (gI h2 47 a0)) hx hb hown hk hR clk_X2 f1 (by decide) (by decide) q722 (fun _ h9 => h9) rfl dX2_draws_86 ?_
  refine w_iconst hx hb dX2_draws_89 ?_
  refine lv_iadd hx hb dX2_draws_90 ?_
  obtain ⟨f1, f⟩ := f
  refine w_put (i := 1) (k := 7) (c1 := cI (h2.1 a0) 47 ((gI h2 47 a0) + (jI 1))) hx hb hown hk hR hL clk_X2 f1 (by decide) (by decide) q722 (fun _ h9 => h9) rfl ⟨rfl, rfl⟩ rfl (pvI clk_X2 (by decide) rfl rfl) dX2_draws_91 (fun H locs hR hL => ?_)
  obtain ⟨h3, eh3⟩ : ∃ z : VH, z = sI h2 47 a0 ((gI h2 47 a0) + (jI 1)) := ⟨_, rfl⟩
  have hR : Rp G h3 H := by rw [eh3]; exact hR
  have f := f h3 eh3
  exact w_vret hx hb hr hlk hR hL dX2_draws_94 f
theorem b_X2_ends_0 {G : Wd} {l : Launch} {d : Nat} {post : Option Value → VH → Prop} {xp : Nat → VH → Prop} {V : Nat → List (Nat × VT) → List Value → VH → Prop} {XV : Nat → List (Nat × VT) → Nat → VH → Prop} (C : Ctx G l d mX2_ends post xp V XV) {i1 i2 i3 i4 : Int32} {a0 : Nat} {h : VH}
    (f : (kd h a0 = 2) ∧ ((kd h (gR h 42 a0) = 9) ∧ D G l d mJ21_size [vR (gR h 42 a0)] h (fun v h1 => ∃ ri1, v = some (.int ri1) ∧ ((¬ ri1 = (jI 30) → (V 24 [(0, vR a0), (1, vI i1), (2, vI i2), (3, vI i3), (4, vI i4)] [] h1)) ∧ (ri1 = (jI 30) → ((kd h1 a0 = 2) ∧ ((kd h1 (gR h1 42 a0) = 9) ∧ D G l d mJ21_removeFirst [vR (gR h1 42 a0)] h1 (fun v h2 => ∃ ra2, v = some (vr ra2) ∧ ((kd h2 ra2 = 200 ∨ kd h2 ra2 = 300) ∧ (V 24 [(0, vR a0), (1, vI i1), (2, vI i2), (3, vI i3), (4, vI i4)] [] h2))) xp))))) xp)) : V 0 [(0, vR a0), (1, vI i1), (2, vI i2), (3, vI i3), (4, vI i4)] [] h := by
  obtain ⟨p, e, R, s, m, args, below, meth, c, Q, ⟨hx, hb, hr, hlk, hml, hown, hk, hRr, htb, hnm, hsB, htr, hQ⟩, hV, hX⟩ := C
  rw [hV]
  intro H locs ls hR hL hl
  have hb : c.code = cX2_ends := hb
  have hr : meth.sig.returnType = none := hr
  have hml : c.maxLocals = 6 := hml
  have hown : s.vm.findClass RX2 = some m.cls := hown
  have hl : lv_has ls 6 (lm [(0, vR a0), (1, vI i1), (2, vI i2), (3, vI i3), (4, vI i4)]) := hl
  have hsz : ls.size = c.maxLocals := hl.1.trans hml.symm
  subst hQ
  refine w_aload_n hx hb dX2_ends_0 rfl (lv_v hl (k := 0) rfl rfl) ?_
  obtain ⟨f1, f⟩ := f
  refine w_get (i := 1) (k := 2) (v := vr (gR h 42 a0)) hx hb hown hk hR clk_X2 f1 (by decide) (by decide) q711 (fun _ h9 => h9) rfl dX2_ends_1 ?_
  refine w_call (mi := mJ21_size) (As := [vR (gR h 42 a0)]) (rest := []) (len := 3) hk hR hL hsz hsB htr hRr (cok_V (i := 8) (C := RJ21) (argsL := []) hx hb hown hk hR f.1 (by decide) rfl q1606 q1143 q3608 q1145 kJ21_size.1 kJ21_size.2 rfl dX2_ends_4) f.2 wJ21_size iJ21_size (by decide) (cat_sum _ (Nat.le_of_ble_eq_true rfl)) rfl (fun v h1 H locs f hR hL => ?_) (fun q h9 H locs hp hR hL => x_out hown hlk hR hL (fun x9 h9 => by rw [htb] at h9; exact absurd h9 List.not_mem_nil) ⟨hp.1, hp.2.1⟩ hp.2.2)
  obtain ⟨ri1, rfl, f⟩ := f
  show Wn p l e R s m args below meth c H locs _ (F0 m 7 ls [.int ri1])
  refine w_bipush hx hb dX2_ends_7 (by decide) ?_
  refine lv_icmp_ne (tgt := 24) hx hb dX2_ends_9 (by decide) (fun c9 => ?_) (fun c9 => ?_)
  · have f := f.1 c9
    exact (hV _ _ _ _).mp f H locs _ hR hL (lv_p hl [0, 1, 2, 3, 4] rfl)
  · have f := f.2 c9
    refine w_aload_n hx hb dX2_ends_12 rfl (lv_v hl (k := 0) rfl rfl) ?_
    obtain ⟨f1, f⟩ := f
    refine w_get (i := 1) (k := 2) (v := vr (gR h1 42 a0)) hx hb hown hk hR clk_X2 f1 (by decide) (by decide) q711 (fun _ h9 => h9) rfl dX2_ends_13 ?_
    refine w_call (mi := mJ21_removeFirst) (As := [vR (gR h1 42 a0)]) (rest := []) (len := 3) hk hR hL hsz hsB htr hRr (cok_V (i := 8) (C := RJ21) (argsL := []) hx hb hown hk hR f.1 (by decide) rfl q2196 q2197 q2198 q2199 kJ21_removeFirst.1 kJ21_removeFirst.2 rfl dX2_ends_16) f.2 wJ21_removeFirst iJ21_removeFirst (by decide) (cat_sum _ (Nat.le_of_ble_eq_true rfl)) rfl (fun v h2 H locs f hR hL => ?_) (fun q h9 H locs hp hR hL => x_out hown hlk hR hL (fun x9 h9 => by rw [htb] at h9; exact absurd h9 List.not_mem_nil) ⟨hp.1, hp.2.1⟩ hp.2.2)
    obtain ⟨ra2, rfl, f⟩ := f
    show Wn p l e R s m args below meth c H locs _ (F0 m 19 ls [vr ra2])
    obtain ⟨f1, f⟩ := f
    refine or_k f1 (fun q9 kk => w_castA (t := 0) hx hb hown hk hR q9 (by decide) rfl (hk.k.2 0 _ rfl).2 q699 dX2_ends_19 kk) (fun q9 kk => w_castA (t := 100) hx hb hown hk hR q9 (by decide) rfl (hk.k.2 0 _ rfl).2 q699 dX2_ends_19 kk) ?_
    refine w_astore' (L' := [(5, vR ra2), (0, vR a0), (1, vI i1), (2, vI i2), (3, vI i3), (4, vI i4)]) hx hb dX2_ends_22 hl (by decide) rfl (fun ls hl => ?_)
    have hsz : ls.size = c.maxLocals := hl.1.trans hml.symm
    exact (hV _ _ _ _).mp f H locs _ hR hL (lv_p hl [1, 2, 3, 4, 5] rfl)
theorem b_X2_ends_24 {G : Wd} {l : Launch} {d : Nat} {post : Option Value → VH → Prop} {xp : Nat → VH → Prop} {V : Nat → List (Nat × VT) → List Value → VH → Prop} {XV : Nat → List (Nat × VT) → Nat → VH → Prop} (C : Ctx G l d mX2_ends post xp V XV) {i1 i2 i3 i4 : Int32} {a0 : Nat} {h : VH}
    (f : (kd h a0 = 2) ∧ ((¬ (jI 4) < 0) ∧ (((jI 4)).toNatClampNeg ≤ 67108864) ∧ (hz h ≤ wC G) ∧ (hs h + ((jI 4)).toNatClampNeg ≤ wS G) ∧ (∀ h1 : VH, h1 = al h 200 ((jI 4)).toNatClampNeg ((jI 4)).toNatClampNeg → ((kd h1 a0 = 2) ∧ ((kd h1 (hz h) = 200) ∧ (vp_in (jI 0) (ln h1 (hz h))) ∧ (∀ h2 : VH, h2 = sI h1 ((jI 0)).toNatClampNeg (hz h) (gI h1 50 a0) → ((kd h2 (hz h) = 200) ∧ (vp_in (jI 1) (ln h2 (hz h))) ∧ (∀ h3 : VH, h3 = sI h2 ((jI 1)).toNatClampNeg (hz h) i1 → ((kd h3 (hz h) = 200) ∧ (vp_in (jI 2) (ln h3 (hz h))) ∧ (∀ h4 : VH, h4 = sI h3 ((jI 2)).toNatClampNeg (hz h) i2 → ((kd h4 (hz h) = 200) ∧ (vp_in (jI 3) (ln h4 (hz h))) ∧ (∀ h5 : VH, h5 = sI h4 ((jI 3)).toNatClampNeg (hz h) i3 → ((kd h5 (gR h 42 a0) = 9) ∧ D G l d mJ21_addLast [vR (gR h 42 a0), vR (hz h)] h5 (fun v h6 => v = none ∧ ((kd h6 a0 = 2) ∧ (((gI h6 52 a0) = (jI (-1)) → (V 66 [(0, vR a0), (4, vI i4)] [.int (jI 0)] h6)) ∧ (¬ (gI h6 52 a0) = (jI (-1)) → (V 66 [(0, vR a0), (4, vI i4)] [.int (jI 1)] h6))))) xp))))))))))))) : V 24 [(0, vR a0), (1, vI i1), (2, vI i2), (3, vI i3), (4, vI i4)] [] h := by
  obtain ⟨p, e, R, s, m, args, below, meth, c, Q, ⟨hx, hb, hr, hlk, hml, hown, hk, hRr, htb, hnm, hsB, htr, hQ⟩, hV, hX⟩ := C
  rw [hV]
  intro H locs ls hR hL hl
  have hb : c.code = cX2_ends := hb
  have hr : meth.sig.returnType = none := hr
  have hml : c.maxLocals = 6 := hml
  have hown : s.vm.findClass RX2 = some m.cls := hown
  have hl : lv_has ls 6 (lm [(0, vR a0), (1, vI i1), (2, vI i2), (3, vI i3), (4, vI i4)]) := hl
  have hsz : ls.size = c.maxLocals := hl.1.trans hml.symm
  subst hQ
  refine w_aload_n hx hb dX2_ends_24 rfl (lv_v hl (k := 0) rfl rfl) ?_
  obtain ⟨f1, f⟩ := f
  refine w_get (i := 1) (k := 2) (v := vr (gR h 42 a0)) hx hb hown hk hR clk_X2 f1 (by decide) (by decide) q711 (fun _ h9 => h9) rfl dX2_ends_25 ?_
  refine w_iconst hx hb dX2_ends_28 ?_
  obtain ⟨f1, f2, f3, f4, f⟩ := f
  refine w_newarr (t := 0) (atype := .int) hx hb hk hR hRr.2.2.1 hRr.2.2.2.1 (by decide) rfl q346 f1 f2 f3 f4 dX2_ends_29 (fun H hR => ?_)
  obtain ⟨h1, eh1⟩ : ∃ z : VH, z = al h 200 ((jI 4)).toNatClampNeg ((jI 4)).toNatClampNeg := ⟨_, rfl⟩
  have hR : Rp G h1 H := by rw [eh1]; exact hR
  have f := f h1 eh1
  refine lv_dup hx hb dX2_ends_31 (vr_cat _) ?_
  refine w_iconst hx hb dX2_ends_32 ?_
  refine w_aload_n hx hb dX2_ends_33 rfl (lv_v hl (k := 0) rfl rfl) ?_
  obtain ⟨f1, f⟩ := f
  refine w_get (i := 1) (k := 10) (v := .int (gI h1 50 a0)) hx hb hown hk hR clk_X2 f1 (by decide) (by decide) q731 (fun _ h9 => h9) rfl dX2_ends_34 ?_
  obtain ⟨f1, f2, f⟩ := f
  refine w_iast hx hb hk hR hL f1 f2 dX2_ends_37 (fun H locs hR hL => ?_)
  obtain ⟨h2, eh2⟩ : ∃ z : VH, z = sI h1 ((jI 0)).toNatClampNeg (hz h) (gI h1 50 a0) := ⟨_, rfl⟩
  have hR : Rp G h2 H := by rw [eh2]; exact hR
  have f := f h2 eh2
  refine lv_dup hx hb dX2_ends_38 (vr_cat _) ?_
  refine w_iconst hx hb dX2_ends_39 ?_
  refine lv_iload_n hx hb dX2_ends_40 rfl (lv_v hl (k := 1) rfl rfl) ?_
  obtain ⟨f1, f2, f⟩ := f
  refine w_iast hx hb hk hR hL f1 f2 dX2_ends_41 (fun H locs hR hL => ?_)
  obtain ⟨h3, eh3⟩ : ∃ z : VH, z = sI h2 ((jI 1)).toNatClampNeg (hz h) i1 := ⟨_, rfl⟩
  have hR : Rp G h3 H := by rw [eh3]; exact hR
  have f := f h3 eh3
  refine lv_dup hx hb dX2_ends_42 (vr_cat _) ?_
  refine w_iconst hx hb dX2_ends_43 ?_
  refine lv_iload_n hx hb dX2_ends_44 rfl (lv_v hl (k := 2) rfl rfl) ?_
  obtain ⟨f1, f2, f⟩ := f
  refine w_iast hx hb hk hR hL f1 f2 dX2_ends_45 (fun H locs hR hL => ?_)
  obtain ⟨h4, eh4⟩ : ∃ z : VH, z = sI h3 ((jI 2)).toNatClampNeg (hz h) i2 := ⟨_, rfl⟩
  have hR : Rp G h4 H := by rw [eh4]; exact hR
  have f := f h4 eh4
  refine lv_dup hx hb dX2_ends_46 (vr_cat _) ?_
  refine w_iconst hx hb dX2_ends_47 ?_
  refine lv_iload_n hx hb dX2_ends_48 rfl (lv_v hl (k := 3) rfl rfl) ?_
  obtain ⟨f1, f2, f⟩ := f
  refine w_iast hx hb hk hR hL f1 f2 dX2_ends_49 (fun H locs hR hL => ?_)
  obtain ⟨h5, eh5⟩ : ∃ z : VH, z = sI h4 ((jI 3)).toNatClampNeg (hz h) i3 := ⟨_, rfl⟩
  have hR : Rp G h5 H := by rw [eh5]; exact hR
  have f := f h5 eh5
  refine w_call (mi := mJ21_addLast) (As := [vR (gR h 42 a0), vR (hz h)]) (rest := []) (len := 3) hk hR hL hsz hsB htr hRr (cok_V (i := 8) (C := RJ21) (argsL := [vr (hz h)]) hx hb hown hk hR f.1 (by decide) rfl q2062 q2063 q2064 q2065 kJ21_addLast.1 kJ21_addLast.2 rfl dX2_ends_50) f.2 wJ21_addLast iJ21_addLast (by decide) (cat_sum _ (Nat.le_of_ble_eq_true rfl)) rfl (fun v h6 H locs f hR hL => ?_) (fun q h9 H locs hp hR hL => x_out hown hlk hR hL (fun x9 h9 => by rw [htb] at h9; exact absurd h9 List.not_mem_nil) ⟨hp.1, hp.2.1⟩ hp.2.2)
  obtain ⟨rfl, f⟩ := f
  show Wn p l e R s m args below meth c H locs _ (F0 m 53 ls [])
  refine w_aload_n hx hb dX2_ends_53 rfl (lv_v hl (k := 0) rfl rfl) ?_
  obtain ⟨f1, f⟩ := f
  refine w_get (i := 1) (k := 12) (v := .int (gI h6 52 a0)) hx hb hown hk hR clk_X2 f1 (by decide) (by decide) q736 (fun _ h9 => h9) rfl dX2_ends_54 ?_
  refine w_iconst hx hb dX2_ends_57 ?_
  refine lv_icmp_eq (tgt := 65) hx hb dX2_ends_58 (by decide) (fun c9 => ?_) (fun c9 => ?_)
  · have f := f.1 c9
    refine w_iconst hx hb dX2_ends_65 ?_
    exact (hV _ _ _ _).mp f H locs _ hR hL (lv_p hl [0, 4] rfl)
  · have f := f.2 c9
    refine w_iconst hx hb dX2_ends_61 ?_
    refine lv_goto (tgt := 66) hx hb dX2_ends_62 (by decide) ?_
    exact (hV _ _ _ _).mp f H locs _ hR hL (lv_p hl [0, 4] rfl)
theorem b_X2_ends_66 {G : Wd} {l : Launch} {d : Nat} {post : Option Value → VH → Prop} {xp : Nat → VH → Prop} {V : Nat → List (Nat × VT) → List Value → VH → Prop} {XV : Nat → List (Nat × VT) → Nat → VH → Prop} (C : Ctx G l d mX2_ends post xp V XV) {i4 x0 : Int32} {a0 : Nat} {h : VH}
    (f : (i4 = 0 → (V 81 [(0, vR a0), (5, vI x0)] [] h)) ∧ (¬ i4 = 0 → ((kd h a0 = 2) ∧ ((kd h a0 = 2) ∧ D G l d mX2_draws [vR a0, vI (gI h 50 a0)] h (fun v h9 => v = none ∧ V 81 [(0, vR a0), (5, vI x0)] [] h9) xp)))) : V 66 [(0, vR a0), (4, vI i4)] [.int x0] h := by
  obtain ⟨p, e, R, s, m, args, below, meth, c, Q, ⟨hx, hb, hr, hlk, hml, hown, hk, hRr, htb, hnm, hsB, htr, hQ⟩, hV, hX⟩ := C
  rw [hV]
  intro H locs ls hR hL hl
  have hb : c.code = cX2_ends := hb
  have hr : meth.sig.returnType = none := hr
  have hml : c.maxLocals = 6 := hml
  have hown : s.vm.findClass RX2 = some m.cls := hown
  have hl : lv_has ls 6 (lm [(0, vR a0), (4, vI i4)]) := hl
  have hsz : ls.size = c.maxLocals := hl.1.trans hml.symm
  subst hQ
  refine w_istore (L' := [(5, vI x0), (0, vR a0), (4, vI i4)]) hx hb dX2_ends_66 hl (by decide) rfl (fun ls hl => ?_)
  have hsz : ls.size = c.maxLocals := hl.1.trans hml.symm
  refine lv_iload hx hb dX2_ends_68 (lv_v hl (k := 2) rfl rfl) ?_
  refine lv_if_eq (tgt := 81) hx hb dX2_ends_70 (by decide) (fun c9 => ?_) (fun c9 => ?_)
  · have f := f.1 c9
    exact (hV _ _ _ _).mp f H locs _ hR hL (lv_p hl [1, 0] rfl)
  · have f := f.2 c9
    refine w_aload_n hx hb dX2_ends_73 rfl (lv_v hl (k := 1) rfl rfl) ?_
    refine w_aload_n hx hb dX2_ends_74 rfl (lv_v hl (k := 1) rfl rfl) ?_
    obtain ⟨f1, f⟩ := f
    refine w_get (i := 1) (k := 10) (v := .int (gI h 50 a0)) hx hb hown hk hR clk_X2 f1 (by decide) (by decide) q731 (fun _ h9 => h9) rfl dX2_ends_75 ?_
    exact w_call (mi := mX2_draws) (As := [vR a0, vI (gI h 50 a0)]) (rest := []) (len := 3) hk hR hL hsz hsB htr hRr (cok_V (i := 1) (C := RX2) (argsL := [.int (gI h 50 a0)]) hx hb hown hk hR f.1 (by decide) rfl q2031 q2033 qs35 q2034 kX2_draws.1 kX2_draws.2 rfl dX2_ends_78) f.2 wX2_draws iX2_draws (by decide) (cat_sum _ (Nat.le_of_ble_eq_true rfl)) rfl (fun v h9 H locs hp hR hL => by obtain ⟨rfl, f⟩ := hp; exact (hV _ _ _ _).mp f H locs _ hR hL (lv_p hl [1, 0] rfl)) (fun q h9 H locs hp hR hL => x_out hown hlk hR hL (fun x9 h9 => by rw [htb] at h9; exact absurd h9 List.not_mem_nil) ⟨hp.1, hp.2.1⟩ hp.2.2)
theorem b_X2_ends_81 {G : Wd} {l : Launch} {d : Nat} {post : Option Value → VH → Prop} {xp : Nat → VH → Prop} {V : Nat → List (Nat × VT) → List Value → VH → Prop} {XV : Nat → List (Nat × VT) → Nat → VH → Prop} (C : Ctx G l d mX2_ends post xp V XV) {i5 : Int32} {a0 : Nat} {h : VH}
    (f : (i5 = 0 → ((kd h a0 = 2) ∧ ((kd h a0 = 2) ∧ ((kd h (gR h 40 a0) = 3) ∧ (((kd h (gR h 87 (gR h 40 a0)) = 4) ∧ D G l d mJ2_size [vR (gR h 87 (gR h 40 a0))] h (fun v h9 => ∃ x9, v = some (.int x9) ∧ V 115 [(0, vR a0)] [.int x9, .int (gI h 47 a0)] h9) xp) ∨ ((kd h (gR h 87 (gR h 40 a0)) = 9) ∧ D G l d mJ21_size [vR (gR h 87 (gR h 40 a0))] h (fun v h9 => ∃ x9, v = some (.int x9) ∧ V 115 [(0, vR a0)] [.int x9, .int (gI h 47 a0)] h9) xp)))))) ∧ (¬ i5 = 0 → ((kd h a0 = 2) ∧ ((kd h a0 = 2) ∧ (∀ h1 : VH, h1 = sI h 52 a0 ((gI h 52 a0) - (jI 1)) → (V 129 [(0, vR a0)] [] h1)))))) : V 81 [(0, vR a0), (5, vI i5)] [] h := by
  obtain ⟨p, e, R, s, m, args, below, meth, c, Q, ⟨hx, hb, hr, hlk, hml, hown, hk, hRr, htb, hnm, hsB, htr, hQ⟩, hV, hX⟩ := C
  rw [hV]
  intro H locs ls hR hL hl
  have hb : c.code = cX2_ends := hb
  have hr : meth.sig.returnType = none := hr
  have hml : c.maxLocals = 6 := hml
  have hown : s.vm.findClass RX2 = some m.cls := hown
  have hl : lv_has ls 6 (lm [(0, vR a0), (5, vI i5)]) := hl
  have hsz : ls.size = c.maxLocals := hl.1.trans hml.symm
  subst hQ
  refine lv_iload hx hb dX2_ends_81 (lv_v hl (k := 1) rfl rfl) ?_
  refine lv_if_eq (tgt := 99) hx hb dX2_ends_83 (by decide) (fun c9 => ?_) (fun c9 => ?_)
  · have f := f.1 c9
    refine w_aload_n hx hb dX2_ends_99 rfl (lv_v hl (k := 0) rfl rfl) ?_
    obtain ⟨f1, f⟩ := f
    refine w_get (i := 1) (k := 7) (v := .int (gI h 47 a0)) hx hb hown hk hR clk_X2 f1 (by decide) (by decide) q722 (fun _ h9 => h9) rfl dX2_ends_100 ?_
    refine w_aload_n hx hb dX2_ends_103 rfl (lv_v hl (k := 0) rfl rfl) ?_
    obtain ⟨f1, f⟩ := f
    refine w_get (i := 1) (k := 0) (v := vr (gR h 40 a0)) hx hb hown hk hR clk_X2 f1 (by decide) (by decide) q704 (fun _ h9 => h9) rfl dX2_ends_104 ?_
    obtain ⟨f1, f⟩ := f
    refine w_getN (i := 2) (k := 7) (v := vr (gR h 87 (gR h 40 a0))) hx hb hown hk hR clk_X3 f1 (by decide) (by decide) q317 (fun _ h9 => h9) rfl dX2_ends_107 ?_
    rcases f with f | f
    · exact w_call (mi := mJ2_size) (As := [vR (gR h 87 (gR h 40 a0))]) (rest := [.int (gI h 47 a0)]) (len := 5) hk hR hL hsz hsB htr hRr (cok_F (n := 0) (x := ⟨"java/util/List", "size", "()I"⟩) (i := 3) (C := RJ2) (argsL := []) hx hb hown hk hR f.1 (by decide) rfl ⟨by decide +kernel, by decide +kernel⟩ q2036 q1133 q1132 q1138 q1136 q1134 q1137 q1135 q1139 (by unfold nPar; decide +kernel) rfl dX2_ends_110) f.2 wJ2_size iJ2_size (by decide) (cat_sum _ (Nat.le_of_ble_eq_true rfl)) rfl (fun v h9 H locs hp hR hL => by obtain ⟨z9, rfl, f⟩ := hp; exact (hV _ _ _ _).mp f H locs _ hR hL (lv_p hl [0] rfl)) (fun q h9 H locs hp hR hL => x_out hown hlk hR hL (fun x9 h9 => by rw [htb] at h9; exact absurd h9 List.not_mem_nil) ⟨hp.1, hp.2.1⟩ hp.2.2)
    exact w_call (mi := mJ21_size) (As := [vR (gR h 87 (gR h 40 a0))]) (rest := [.int (gI h 47 a0)]) (len := 5) hk hR hL hsz hsB htr hRr (cok_F (n := 0) (x := ⟨"java/util/List", "size", "()I"⟩) (i := 8) (C := RJ21) (argsL := []) hx hb hown hk hR f.1 (by decide) rfl ⟨by decide +kernel, by decide +kernel⟩ q2036 q1133 q1132 q1144 q1142 q1140 q1143 q1141 q1145 (by unfold nPar; decide +kernel) rfl dX2_ends_110) f.2 wJ21_size iJ21_size (by decide) (cat_sum _ (Nat.le_of_ble_eq_true rfl)) rfl (fun v h9 H locs hp hR hL => by obtain ⟨z9, rfl, f⟩ := hp; exact (hV _ _ _ _).mp f H locs _ hR hL (lv_p hl [0] rfl)) (fun q h9 H locs hp hR hL => x_out hown hlk hR hL (fun x9 h9 => by rw [htb] at h9; exact absurd h9 List.not_mem_nil) ⟨hp.1, hp.2.1⟩ hp.2.2)
  · have f := f.2 c9
    refine w_aload_n hx hb dX2_ends_86 rfl (lv_v hl (k := 0) rfl rfl) ?_
    refine lv_dup hx hb dX2_ends_87 (vr_cat _) ?_
    obtain ⟨f1, f⟩ := f
    refine w_get (i := 1) (k := 12) (v := .int (gI h 52 a0)) hx hb hown hk hR clk_X2 f1 (by decide) (by decide) q736 (fun _ h9 => h9) rfl dX2_ends_88 ?_
    refine w_iconst hx hb dX2_ends_91 ?_
    refine lv_isub hx hb dX2_ends_92 ?_
    obtain ⟨f1, f⟩ := f
    refine w_put (i := 1) (k := 12) (c1 := cI (h.1 a0) 52 ((gI h 52 a0) - (jI 1))) hx hb hown hk hR hL clk_X2 f1 (by decide) (by decide) q736 (fun _ h9 => h9) rfl ⟨rfl, rfl⟩ rfl (pvI clk_X2 (by decide) rfl rfl) dX2_ends_93 (fun H locs hR hL => ?_)
    obtain ⟨h1, eh1⟩ : ∃ z : VH, z = sI h 52 a0 ((gI h 52 a0) - (jI 1)) := ⟨_, rfl⟩
    have hR : Rp G h1 H := by rw [eh1]; exact hR
    have f := f h1 eh1
    refine lv_goto (tgt := 129) hx hb dX2_ends_96 (by decide) ?_
    exact (hV _ _ _ _).mp f H locs _ hR hL (lv_p hl [0] rfl)
theorem b_X2_ends_115 {G : Wd} {l : Launch} {d : Nat} {post : Option Value → VH → Prop} {xp : Nat → VH → Prop} {V : Nat → List (Nat × VT) → List Value → VH → Prop} {XV : Nat → List (Nat × VT) → Nat → VH → Prop} (C : Ctx G l d mX2_ends post xp V XV) {x0 x1 : Int32} {a0 : Nat} {h : VH}
    (f : (¬ x0 = x1 → (V 129 [(0, vR a0)] [] h)) ∧ (x0 = x1 → ((kd h a0 = 2) ∧ ((kd h (gR h 40 a0) = 3) ∧ ((kd h a0 = 2) ∧ (∀ h1 : VH, h1 = sI h 52 a0 (gI h 82 (gR h 40 a0)) → (V 129 [(0, vR a0)] [] h1))))))) : V 115 [(0, vR a0)] [.int x1, .int x0] h := by
  obtain ⟨p, e, R, s, m, args, below, meth, c, Q, ⟨hx, hb, hr, hlk, hml, hown, hk, hRr, htb, hnm, hsB, htr, hQ⟩, hV, hX⟩ := C
  rw [hV]
  intro H locs ls hR hL hl
  have hb : c.code = cX2_ends := hb
  have hr : meth.sig.returnType = none := hr
  have hml : c.maxLocals = 6 := hml
  have hown : s.vm.findClass RX2 = some m.cls := hown
  have hl : lv_has ls 6 (lm [(0, vR a0)]) := hl
  have hsz : ls.size = c.maxLocals := hl.1.trans hml.symm
  subst hQ
  refine lv_icmp_ne (tgt := 129) hx hb dX2_ends_115 (by decide) (fun c9 => ?_) (fun c9 => ?_)
  · have f := f.1 c9
    exact (hV _ _ _ _).mp f H locs _ hR hL (lv_p hl [0] rfl)
  · have f := f.2 c9
    refine w_aload_n hx hb dX2_ends_118 rfl (lv_v hl (k := 0) rfl rfl) ?_
    refine w_aload_n hx hb dX2_ends_119 rfl (lv_v hl (k := 0) rfl rfl) ?_
    obtain ⟨f1, f⟩ := f
    refine w_get (i := 1) (k := 0) (v := vr (gR h 40 a0)) hx hb hown hk hR clk_X2 f1 (by decide) (by decide) q704 (fun _ h9 => h9) rfl dX2_ends_120 ?_
    obtain ⟨f1, f⟩ := f
    refine w_getN (i := 2) (k := 2) (v := .int (gI h 82 (gR h 40 a0))) hx hb hown hk hR clk_X3 f1 (by decide) (by decide) q298 (fun _ h9 => h9) rfl dX2_ends_123 ?_
    obtain ⟨f1, f⟩ := f
    refine w_put (i := 1) (k := 12) (c1 := cI (h.1 a0) 52 (gI h 82 (gR h 40 a0))) hx hb hown hk hR hL clk_X2 f1 (by decide) (by decide) q736 (fun _ h9 => h9) rfl ⟨rfl, rfl⟩ rfl (pvI clk_X2 (by decide) rfl rfl) dX2_ends_126 (fun H locs hR hL => ?_)
    obtain ⟨h1, eh1⟩ : ∃ z : VH, z = sI h 52 a0 (gI h 82 (gR h 40 a0)) := ⟨_, rfl⟩
    have hR : Rp G h1 H := by rw [eh1]; exact hR
    have f := f h1 eh1
    exact (hV _ _ _ _).mp f H locs _ hR hL (lv_p hl [0] rfl)
theorem b_X2_ends_129 {G : Wd} {l : Launch} {d : Nat} {post : Option Value → VH → Prop} {xp : Nat → VH → Prop} {V : Nat → List (Nat × VT) → List Value → VH → Prop} {XV : Nat → List (Nat × VT) → Nat → VH → Prop} (C : Ctx G l d mX2_ends post xp V XV) {a0 : Nat} {h : VH}
    (f : (kd h a0 = 2) ∧ ((kd h a0 = 2) ∧ ((kd h (gR h 40 a0) = 3) ∧ ((¬ (gI h 82 (gR h 40 a0)) = 0) ∧ ((kd h a0 = 2) ∧ (∀ h1 : VH, h1 = sI h 50 a0 (jrem ((gI h 50 a0) + (jI 1)) (gI h 82 (gR h 40 a0))) → ((kd h1 a0 = 2) ∧ ((kd h1 a0 = 2) ∧ (∀ h2 : VH, h2 = sI h1 51 a0 ((gI h1 51 a0) + (jI 1)) → (post none h2)))))))))) : V 129 [(0, vR a0)] [] h := by
  obtain ⟨p, e, R, s, m, args, below, meth, c, Q, ⟨hx, hb, hr, hlk, hml, hown, hk, hRr, htb, hnm, hsB, htr, hQ⟩, hV, hX⟩ := C
  rw [hV]
  intro H locs ls hR hL hl
  have hb : c.code = cX2_ends := hb
  have hr : meth.sig.returnType = none := hr
  have hml : c.maxLocals = 6 := hml
  have hown : s.vm.findClass RX2 = some m.cls := hown
  have hl : lv_has ls 6 (lm [(0, vR a0)]) := hl
  have hsz : ls.size = c.maxLocals := hl.1.trans hml.symm
  subst hQ
  refine w_aload_n hx hb dX2_ends_129 rfl (lv_v hl (k := 0) rfl rfl) ?_
  refine w_aload_n hx hb dX2_ends_130 rfl (lv_v hl (k := 0) rfl rfl) ?_
  obtain ⟨f1, f⟩ := f
  refine w_get (i := 1) (k := 10) (v := .int (gI h 50 a0)) hx hb hown hk hR clk_X2 f1 (by decide) (by decide) q731 (fun _ h9 => h9) rfl dX2_ends_131 ?_
  refine w_iconst hx hb dX2_ends_134 ?_
  refine lv_iadd hx hb dX2_ends_135 ?_
  refine w_aload_n hx hb dX2_ends_136 rfl (lv_v hl (k := 0) rfl rfl) ?_
  obtain ⟨f1, f⟩ := f
  refine w_get (i := 1) (k := 0) (v := vr (gR h 40 a0)) hx hb hown hk hR clk_X2 f1 (by decide) (by decide) q704 (fun _ h9 => h9) rfl dX2_ends_137 ?_
  obtain ⟨f1, f⟩ := f
  refine w_getN (i := 2) (k := 2) (v := .int (gI h 82 (gR h 40 a0))) hx hb hown hk hR clk_X3 f1 (by decide) (by decide) q298 (fun _ h9 => h9) rfl dX2_ends_140 ?_
  obtain ⟨f1, f⟩ := f
  refine w_irem hx hb dX2_ends_143 f1 ?_
  obtain ⟨f1, f⟩ := f
  refine w_put (i := 1) (k := 10) (c1 := cI (h.1 a0) 50 (jrem ((gI h 50 a0) + (jI 1)) (gI h 82 (gR h 40 a0)))) hx hb hown hk hR hL clk_X2 f1 (by decide) (by decide) q731 (fun _ h9 => h9) rfl ⟨rfl, rfl⟩ rfl (pvI clk_X2 (by decide) rfl rfl) dX2_ends_144 (fun H locs hR hL => ?_)
  obtain ⟨h1, eh1⟩ : ∃ z : VH, z = sI h 50 a0 (jrem ((gI h 50 a0) + (jI 1)) (gI h 82 (gR h 40 a0))) := ⟨_, rfl⟩
  have hR : Rp G h1 H := by rw [eh1]; exact hR
  have f := f h1 eh1
  refine w_aload_n hx hb dX2_ends_147 rfl (lv_v hl (k := 0) rfl rfl) ?_
  refine lv_dup hx hb dX2_ends_148 (vr_cat _) ?_
  obtain ⟨f1, f⟩ := f
  refine w_get (i := 1) (k := 11) (v := .int (gI h1 51 a0)) hx hb hown hk hR clk_X2 f1 (by decide) (by decide) q734 (fun _ h9 => h9) rfl dX2_ends_149 ?_
  refine w_iconst hx hb dX2_ends_152 ?_
  refine lv_iadd hx hb dX2_ends_153 ?_
  obtain ⟨f1, f⟩ := f
  refine w_put (i := 1) (k := 11) (c1 := cI (h1.1 a0) 51 ((gI h1 51 a0) + (jI 1))) hx hb hown hk hR hL clk_X2 f1 (by decide) (by decide) q734 (fun _ h9 => h9) rfl ⟨rfl, rfl⟩ rfl (pvI clk_X2 (by decide) rfl rfl) dX2_ends_154 (fun H locs hR hL => ?_)
  obtain ⟨h2, eh2⟩ : ∃ z : VH, z = sI h1 51 a0 ((gI h1 51 a0) + (jI 1)) := ⟨_, rfl⟩
  have hR : Rp G h2 H := by rw [eh2]; exact hR
  have f := f h2 eh2
  exact w_vret hx hb hr hlk hR hL dX2_ends_157 f
theorem b_X2_goes_0 {G : Wd} {l : Launch} {d : Nat} {post : Option Value → VH → Prop} {xp : Nat → VH → Prop} {V : Nat → List (Nat × VT) → List Value → VH → Prop} {XV : Nat → List (Nat × VT) → Nat → VH → Prop} (C : Ctx G l d mX2_goes post xp V XV) {a0 a1 : Nat} {h : VH}
    (f : (kd h a0 = 2) ∧ ((kd h (gR h 44 a0) = 200 ∨ kd h (gR h 44 a0) = 300) ∧ (vp_in (jI 6) (ln h (gR h 44 a0))) ∧ ((kd h a1 = 17) ∧ D G l d mX10_color [vR a1] h (fun v h1 => ∃ ri1, v = some (.int ri1) ∧ ((kd h1 a1 = 17) ∧ D G l d mX10_rank [vR a1] h1 (fun v h2 => ∃ ri2, v = some (.int ri2) ∧ ((kd h2 a0 = 2) ∧ D G l d mX2_isCritical [vR a0, vI ri1, vI ri2] h2 (fun v h3 => ∃ ri3, v = some (.int ri3) ∧ ((ri3 = 0 → ((kd h3 (gR h 44 a0) = 200) ∧ (vp_in (jI 6) (ln h3 (gR h 44 a0))) ∧ (∀ h4 : VH, h4 = sI h3 ((jI 6)).toNatClampNeg (gR h 44 a0) ((gI h ((jI 6)).toNatClampNeg (gR h 44 a0)) + (jI 0)) → ((kd h4 a0 = 2) ∧ ((kd h4 a1 = 17) ∧ D G l d mX10_color [vR a1] h4 (fun v h5 => ∃ ri5, v = some (.int ri5) ∧ ((isArrR h5 (gR h4 45 a0)) ∧ (vp_in ri5 (ln h5 (gR h4 45 a0))) ∧ ((kd h5 a1 = 17) ∧ D G l d mX10_rank [vR a1] h5 (fun v h6 => ∃ ri6, v = some (.int ri6) ∧ ((kd h6 (gR h5 (ri5).toNatClampNeg (gR h4 45 a0)) = 200 ∨ kd h6 (gR h5 (ri5).toNatClampNeg (gR h4 45 a0)) = 300) ∧ (vp_in ri6 (ln h6 (gR h5 (ri5).toNatClampNeg (gR h4 45 a0)))) ∧ ((kd h6 (gR h5 (ri5).toNatClampNeg (gR h4 45 a0)) = 200) ∧ (vp_in ri6 (ln h6 (gR h5 (ri5).toNatClampNeg (gR h4 45 a0)))) ∧ (∀ h7 : VH, h7 = sI h6 (ri6).toNatClampNeg (gR h5 (ri5).toNatClampNeg (gR h4 45 a0)) ((gI h6 (ri6).toNatClampNeg (gR h5 (ri5).toNatClampNeg (gR h4 45 a0))) + (jI 1)) → (post none h7))))) xp))) xp))))) ∧ (¬ ri3 = 0 → ((kd h3 (gR h 44 a0) = 200) ∧ (vp_in (jI 6) (ln h3 (gR h 44 a0))) ∧ (∀ h8 : VH, h8 = sI h3 ((jI 6)).toNatClampNeg (gR h 44 a0) ((gI h ((jI 6)).toNatClampNeg (gR h 44 a0)) + (jI 1)) → ((kd h8 a0 = 2) ∧ ((kd h8 a1 = 17) ∧ D G l d mX10_color [vR a1] h8 (fun v h9 => ∃ ri9, v = some (.int ri9) ∧ ((isArrR h9 (gR h8 45 a0)) ∧ (vp_in ri9 (ln h9 (gR h8 45 a0))) ∧ ((kd h9 a1 = 17) ∧ D G l d mX10_rank [vR a1] h9 (fun v h10 => ∃ ri10, v = some (.int ri10) ∧ ((kd h10 (gR h9 (ri9).toNatClampNeg (gR h8 45 a0)) = 200 ∨ kd h10 (gR h9 (ri9).toNatClampNeg (gR h8 45 a0)) = 300) ∧ (vp_in ri10 (ln h10 (gR h9 (ri9).toNatClampNeg (gR h8 45 a0)))) ∧ ((kd h10 (gR h9 (ri9).toNatClampNeg (gR h8 45 a0)) = 200) ∧ (vp_in ri10 (ln h10 (gR h9 (ri9).toNatClampNeg (gR h8 45 a0)))) ∧ (∀ h11 : VH, h11 = sI h10 (ri10).toNatClampNeg (gR h9 (ri9).toNatClampNeg (gR h8 45 a0)) ((gI h10 (ri10).toNatClampNeg (gR h9 (ri9).toNatClampNeg (gR h8 45 a0))) + (jI 1)) → (post none h11))))) xp))) xp))))))) xp)) xp)) xp))) : V 0 [(0, vR a0), (1, vR a1)] [] h := by
  obtain ⟨p, e, R, s, m, args, below, meth, c, Q, ⟨hx, hb, hr, hlk, hml, hown, hk, hRr, htb, hnm, hsB, htr, hQ⟩, hV, hX⟩ := C
  rw [hV]
  intro H locs ls hR hL hl
  have hb : c.code = cX2_goes := hb
  have hr : meth.sig.returnType = none := hr
  have hml : c.maxLocals = 2 := hml
  have hown : s.vm.findClass RX2 = some m.cls := hown
  have hl : lv_has ls 2 (lm [(0, vR a0), (1, vR a1)]) := hl
  have hsz : ls.size = c.maxLocals := hl.1.trans hml.symm
  subst hQ
  refine w_aload_n hx hb dX2_goes_0 rfl (lv_v hl (k := 0) rfl rfl) ?_
  obtain ⟨f1, f⟩ := f
  refine w_get (i := 1) (k := 4) (v := vr (gR h 44 a0)) hx hb hown hk hR clk_X2 f1 (by decide) (by decide) q716 (fun _ h9 => h9) rfl dX2_goes_1 ?_
  refine w_bipush hx hb dX2_goes_4 (by decide) ?_
  refine lv_dup2_11 hx hb dX2_goes_6 rfl (vr_cat _) ?_
  obtain ⟨f1, f2, f⟩ := f
  refine or_k f1 (fun q9 kk => w_iald (t := 0) hx hb hk hR q9 (by decide) rfl f2 dX2_goes_7 kk) (fun q9 kk => w_iald (t := 100) hx hb hk hR q9 (by decide) rfl f2 dX2_goes_7 kk) ?_
  refine w_aload_n hx hb dX2_goes_8 rfl (lv_v hl (k := 0) rfl rfl) ?_
  refine w_aload_n hx hb dX2_goes_9 rfl (lv_v hl (k := 1) rfl rfl) ?_
  refine w_call (mi := mX10_color) (As := [vR a1]) (rest := [vr a0, .int (gI h ((jI 6)).toNatClampNeg (gR h 44 a0)), .int (jI 6), vr (gR h 44 a0)]) (len := 3) hk hR hL hsz hsB htr hRr (cok_V (i := 16) (C := RX10) (argsL := []) hx hb hown hk hR f.1 (by decide) rfl q2247 q1372 q1373 q1374 kX10_color.1 kX10_color.2 rfl dX2_goes_10) f.2 wX10_color iX10_color (by decide) (cat_sum _ (Nat.le_of_ble_eq_true rfl)) rfl (fun v h1 H locs f hR hL => ?_) (fun q h9 H locs hp hR hL => x_out hown hlk hR hL (fun x9 h9 => by rw [htb] at h9; exact absurd h9 List.not_mem_nil) ⟨hp.1, hp.2.1⟩ hp.2.2)
  obtain ⟨ri1, rfl, f⟩ := f
  show Wn p l e R s m args below meth c H locs _ (F0 m 13 ls [.int ri1, vr a0, .int (gI h ((jI 6)).toNatClampNeg (gR h 44 a0)), .int (jI 6), vr (gR h 44 a0)])
  refine w_aload_n hx hb dX2_goes_13 rfl (lv_v hl (k := 1) rfl rfl) ?_
  refine w_call (mi := mX10_rank) (As := [vR a1]) (rest := [.int ri1, vr a0, .int (gI h ((jI 6)).toNatClampNeg (gR h 44 a0)), .int (jI 6), vr (gR h 44 a0)]) (len := 3) hk hR hL hsz hsB htr hRr (cok_V (i := 16) (C := RX10) (argsL := []) hx hb hown hk hR f.1 (by decide) rfl q2248 q1376 q1377 q1378 kX10_rank.1 kX10_rank.2 rfl dX2_goes_14) f.2 wX10_rank iX10_rank (by decide) (cat_sum _ (Nat.le_of_ble_eq_true rfl)) rfl (fun v h2 H locs f hR hL => ?_) (fun q h9 H locs hp hR hL => x_out hown hlk hR hL (fun x9 h9 => by rw [htb] at h9; exact absurd h9 List.not_mem_nil) ⟨hp.1, hp.2.1⟩ hp.2.2)
  obtain ⟨ri2, rfl, f⟩ := f
  show Wn p l e R s m args below meth c H locs _ (F0 m 17 ls [.int ri2, .int ri1, vr a0, .int (gI h ((jI 6)).toNatClampNeg (gR h 44 a0)), .int (jI 6), vr (gR h 44 a0)])
  refine w_call (mi := mX2_isCritical) (As := [vR a0, vI ri1, vI ri2]) (rest := [.int (gI h ((jI 6)).toNatClampNeg (gR h 44 a0)), .int (jI 6), vr (gR h 44 a0)]) (len := 3) hk hR hL hsz hsB htr hRr (cok_V (i := 1) (C := RX2) (argsL := [.int ri1, .int ri2]) hx hb hown hk hR f.1 (by decide) rfl q2410 q2411 q2412 q2413 kX2_isCritical.1 kX2_isCritical.2 rfl dX2_goes_17) f.2 wX2_isCritical iX2_isCritical (by decide) (cat_sum _ (Nat.le_of_ble_eq_true rfl)) rfl (fun v h3 H locs f hR hL => ?_) (fun q h9 H locs hp hR hL => x_out hown hlk hR hL (fun x9 h9 => by rw [htb] at h9; exact absurd h9 List.not_mem_nil) ⟨hp.1, hp.2.1⟩ hp.2.2)
  obtain ⟨ri3, rfl, f⟩ := f
  show Wn p l e R s m args below meth c H locs _ (F0 m 20 ls [.int ri3, .int (gI h ((jI 6)).toNatClampNeg (gR h 44 a0)), .int (jI 6), vr (gR h 44 a0)])
  refine lv_if_eq (tgt := 27) hx hb dX2_goes_20 (by decide) (fun c9 => ?_) (fun c9 => ?_)
  · have f := f.1 c9
    refine w_iconst hx hb dX2_goes_27 ?_
    refine lv_iadd hx hb dX2_goes_28 ?_
    obtain ⟨f1, f2, f⟩ := f
    refine w_iast hx hb hk hR hL f1 f2 dX2_goes_29 (fun H locs hR hL => ?_)
    obtain ⟨h4, eh4⟩ : ∃ z : VH, z = sI h3 ((jI 6)).toNatClampNeg (gR h 44 a0) ((gI h ((jI 6)).toNatClampNeg (gR h 44 a0)) + (jI 0)) := ⟨_, rfl⟩
    have hR : Rp G h4 H := by rw [eh4]; exact hR
    have f := f h4 eh4
    refine w_aload_n hx hb dX2_goes_30 rfl (lv_v hl (k := 0) rfl rfl) ?_
    obtain ⟨f1, f⟩ := f
    refine w_get (i := 1) (k := 5) (v := vr (gR h4 45 a0)) hx hb hown hk hR clk_X2 f1 (by decide) (by decide) q718 (fun _ h9 => h9) rfl dX2_goes_31 ?_
    refine w_aload_n hx hb dX2_goes_34 rfl (lv_v hl (k := 1) rfl rfl) ?_
    refine w_call (mi := mX10_color) (As := [vR a1]) (rest := [vr (gR h4 45 a0)]) (len := 3) hk hR hL hsz hsB htr hRr (cok_V (i := 16) (C := RX10) (argsL := []) hx hb hown hk hR f.1 (by decide) rfl q2247 q1372 q1373 q1374 kX10_color.1 kX10_color.2 rfl dX2_goes_35) f.2 wX10_color iX10_color (by decide) (cat_sum _ (Nat.le_of_ble_eq_true rfl)) rfl (fun v h5 H locs f hR hL => ?_) (fun q h9 H locs hp hR hL => x_out hown hlk hR hL (fun x9 h9 => by rw [htb] at h9; exact absurd h9 List.not_mem_nil) ⟨hp.1, hp.2.1⟩ hp.2.2)
    obtain ⟨ri5, rfl, f⟩ := f
    show Wn p l e R s m args below meth c H locs _ (F0 m 38 ls [.int ri5, vr (gR h4 45 a0)])
    obtain ⟨f1, f2, f⟩ := f
    obtain ⟨t9, ty9, g1, g2, g3, g4⟩ := f1.use
    refine w_aald hx hb hk hR g1 g2 g3 g4 f2 dX2_goes_38 ?_
    refine w_aload_n hx hb dX2_goes_39 rfl (lv_v hl (k := 1) rfl rfl) ?_
    refine w_call (mi := mX10_rank) (As := [vR a1]) (rest := [vr (gR h5 (ri5).toNatClampNeg (gR h4 45 a0))]) (len := 3) hk hR hL hsz hsB htr hRr (cok_V (i := 16) (C := RX10) (argsL := []) hx hb hown hk hR f.1 (by decide) rfl q2248 q1376 q1377 q1378 kX10_rank.1 kX10_rank.2 rfl dX2_goes_40) f.2 wX10_rank iX10_rank (by decide) (cat_sum _ (Nat.le_of_ble_eq_true rfl)) rfl (fun v h6 H locs f hR hL => ?_) (fun q h9 H locs hp hR hL => x_out hown hlk hR hL (fun x9 h9 => by rw [htb] at h9; exact absurd h9 List.not_mem_nil) ⟨hp.1, hp.2.1⟩ hp.2.2)
    obtain ⟨ri6, rfl, f⟩ := f
    show Wn p l e R s m args below meth c H locs _ (F0 m 43 ls [.int ri6, vr (gR h5 (ri5).toNatClampNeg (gR h4 45 a0))])
    refine lv_dup2_11 hx hb dX2_goes_43 rfl (vr_cat _) ?_
    obtain ⟨f1, f2, f⟩ := f
    refine or_k f1 (fun q9 kk => w_iald (t := 0) hx hb hk hR q9 (by decide) rfl f2 dX2_goes_44 kk) (fun q9 kk => w_iald (t := 100) hx hb hk hR q9 (by decide) rfl f2 dX2_goes_44 kk) ?_
    refine w_iconst hx hb dX2_goes_45 ?_
    refine lv_iadd hx hb dX2_goes_46 ?_
    obtain ⟨f1, f2, f⟩ := f
    refine w_iast hx hb hk hR hL f1 f2 dX2_goes_47 (fun H locs hR hL => ?_)
    obtain ⟨h7, eh7⟩ : ∃ z : VH, z = sI h6 (ri6).toNatClampNeg (gR h5 (ri5).toNatClampNeg (gR h4 45 a0)) ((gI h6 (ri6).toNatClampNeg (gR h5 (ri5).toNatClampNeg (gR h4 45 a0))) + (jI 1)) := ⟨_, rfl⟩
    have hR : Rp G h7 H := by rw [eh7]; exact hR
    have f := f h7 eh7
    exact w_vret hx hb hr hlk hR hL dX2_goes_48 f
  · have f := f.2 c9
    refine w_iconst hx hb dX2_goes_23 ?_
    refine lv_goto (tgt := 28) hx hb dX2_goes_24 (by decide) ?_
    refine lv_iadd hx hb dX2_goes_28 ?_
    obtain ⟨f1, f2, f⟩ := f
    refine w_iast hx hb hk hR hL f1 f2 dX2_goes_29 (fun H locs hR hL => ?_)
    obtain ⟨h8, eh8⟩ : ∃ z : VH, z = sI h3 ((jI 6)).toNatClampNeg (gR h 44 a0) ((gI h ((jI 6)).toNatClampNeg (gR h 44 a0)) + (jI 1)) := ⟨_, rfl⟩
    have hR : Rp G h8 H := by rw [eh8]; exact hR
    have f := f h8 eh8
    refine w_aload_n hx hb dX2_goes_30 rfl (lv_v hl (k := 0) rfl rfl) ?_
    obtain ⟨f1, f⟩ := f
    refine w_get (i := 1) (k := 5) (v := vr (gR h8 45 a0)) hx hb hown hk hR clk_X2 f1 (by decide) (by decide) q718 (fun _ h9 => h9) rfl dX2_goes_31 ?_
    refine w_aload_n hx hb dX2_goes_34 rfl (lv_v hl (k := 1) rfl rfl) ?_
    refine w_call (mi := mX10_color) (As := [vR a1]) (rest := [vr (gR h8 45 a0)]) (len := 3) hk hR hL hsz hsB htr hRr (cok_V (i := 16) (C := RX10) (argsL := []) hx hb hown hk hR f.1 (by decide) rfl q2247 q1372 q1373 q1374 kX10_color.1 kX10_color.2 rfl dX2_goes_35) f.2 wX10_color iX10_color (by decide) (cat_sum _ (Nat.le_of_ble_eq_true rfl)) rfl (fun v h9 H locs f hR hL => ?_) (fun q h9 H locs hp hR hL => x_out hown hlk hR hL (fun x9 h9 => by rw [htb] at h9; exact absurd h9 List.not_mem_nil) ⟨hp.1, hp.2.1⟩ hp.2.2)
    obtain ⟨ri9, rfl, f⟩ := f
    show Wn p l e R s m args below meth c H locs _ (F0 m 38 ls [.int ri9, vr (gR h8 45 a0)])
    obtain ⟨f1, f2, f⟩ := f
    obtain ⟨t9, ty9, g1, g2, g3, g4⟩ := f1.use
    refine w_aald hx hb hk hR g1 g2 g3 g4 f2 dX2_goes_38 ?_
    refine w_aload_n hx hb dX2_goes_39 rfl (lv_v hl (k := 1) rfl rfl) ?_
    refine w_call (mi := mX10_rank) (As := [vR a1]) (rest := [vr (gR h9 (ri9).toNatClampNeg (gR h8 45 a0))]) (len := 3) hk hR hL hsz hsB htr hRr (cok_V (i := 16) (C := RX10) (argsL := []) hx hb hown hk hR f.1 (by decide) rfl q2248 q1376 q1377 q1378 kX10_rank.1 kX10_rank.2 rfl dX2_goes_40) f.2 wX10_rank iX10_rank (by decide) (cat_sum _ (Nat.le_of_ble_eq_true rfl)) rfl (fun v h10 H locs f hR hL => ?_) (fun q h9 H locs hp hR hL => x_out hown hlk hR hL (fun x9 h9 => by rw [htb] at h9; exact absurd h9 List.not_mem_nil) ⟨hp.1, hp.2.1⟩ hp.2.2)
    obtain ⟨ri10, rfl, f⟩ := f
    show Wn p l e R s m args below meth c H locs _ (F0 m 43 ls [.int ri10, vr (gR h9 (ri9).toNatClampNeg (gR h8 45 a0))])
    refine lv_dup2_11 hx hb dX2_goes_43 rfl (vr_cat _) ?_
    obtain ⟨f1, f2, f⟩ := f
    refine or_k f1 (fun q9 kk => w_iald (t := 0) hx hb hk hR q9 (by decide) rfl f2 dX2_goes_44 kk) (fun q9 kk => w_iald (t := 100) hx hb hk hR q9 (by decide) rfl f2 dX2_goes_44 kk) ?_
    refine w_iconst hx hb dX2_goes_45 ?_
    refine lv_iadd hx hb dX2_goes_46 ?_
    obtain ⟨f1, f2, f⟩ := f
    refine w_iast hx hb hk hR hL f1 f2 dX2_goes_47 (fun H locs hR hL => ?_)
    obtain ⟨h11, eh11⟩ : ∃ z : VH, z = sI h10 (ri10).toNatClampNeg (gR h9 (ri9).toNatClampNeg (gR h8 45 a0)) ((gI h10 (ri10).toNatClampNeg (gR h9 (ri9).toNatClampNeg (gR h8 45 a0))) + (jI 1)) := ⟨_, rfl⟩
    have hR : Rp G h11 H := by rw [eh11]; exact hR
    have f := f h11 eh11
    exact w_vret hx hb hr hlk hR hL dX2_goes_48 f
theorem t_X2_goes {G : Wd} {l : Launch} {d : Nat} {post : Option Value → VH → Prop} {xp : Nat → VH → Prop} {a0 a1 : Nat} {h : VH} (hd : 9 ≤ d)
    (f : (kd h a0 = 2) ∧ ((kd h (gR h 44 a0) = 200 ∨ kd h (gR h 44 a0) = 300) ∧ (vp_in (jI 6) (ln h (gR h 44 a0))) ∧ ((kd h a1 = 17) ∧ D G l (d - 1) mX10_color [vR a1] h (fun v h1 => ∃ ri1, v = some (.int ri1) ∧ ((kd h1 a1 = 17) ∧ D G l (d - 1) mX10_rank [vR a1] h1 (fun v h2 => ∃ ri2, v = some (.int ri2) ∧ ((kd h2 a0 = 2) ∧ D G l (d - 1) mX2_isCritical [vR a0, vI ri1, vI ri2] h2 (fun v h3 => ∃ ri3, v = some (.int ri3) ∧ ((ri3 = 0 → ((kd h3 (gR h 44 a0) = 200) ∧ (vp_in (jI 6) (ln h3 (gR h 44 a0))) ∧ (∀ h4 : VH, h4 = sI h3 ((jI 6)).toNatClampNeg (gR h 44 a0) ((gI h ((jI 6)).toNatClampNeg (gR h 44 a0)) + (jI 0)) → ((kd h4 a0 = 2) ∧ ((kd h4 a1 = 17) ∧ D G l (d - 1) mX10_color [vR a1] h4 (fun v h5 => ∃ ri5, v = some (.int ri5) ∧ ((isArrR h5 (gR h4 45 a0)) ∧ (vp_in ri5 (ln h5 (gR h4 45 a0))) ∧ ((kd h5 a1 = 17) ∧ D G l (d - 1) mX10_rank [vR a1] h5 (fun v h6 => ∃ ri6, v = some (.int ri6) ∧ ((kd h6 (gR h5 (ri5).toNatClampNeg (gR h4 45 a0)) = 200 ∨ kd h6 (gR h5 (ri5).toNatClampNeg (gR h4 45 a0)) = 300) ∧ (vp_in ri6 (ln h6 (gR h5 (ri5).toNatClampNeg (gR h4 45 a0)))) ∧ ((kd h6 (gR h5 (ri5).toNatClampNeg (gR h4 45 a0)) = 200) ∧ (vp_in ri6 (ln h6 (gR h5 (ri5).toNatClampNeg (gR h4 45 a0)))) ∧ (∀ h7 : VH, h7 = sI h6 (ri6).toNatClampNeg (gR h5 (ri5).toNatClampNeg (gR h4 45 a0)) ((gI h6 (ri6).toNatClampNeg (gR h5 (ri5).toNatClampNeg (gR h4 45 a0))) + (jI 1)) → (post none h7))))) xp))) xp))))) ∧ (¬ ri3 = 0 → ((kd h3 (gR h 44 a0) = 200) ∧ (vp_in (jI 6) (ln h3 (gR h 44 a0))) ∧ (∀ h8 : VH, h8 = sI h3 ((jI 6)).toNatClampNeg (gR h 44 a0) ((gI h ((jI 6)).toNatClampNeg (gR h 44 a0)) + (jI 1)) → ((kd h8 a0 = 2) ∧ ((kd h8 a1 = 17) ∧ D G l (d - 1) mX10_color [vR a1] h8 (fun v h9 => ∃ ri9, v = some (.int ri9) ∧ ((isArrR h9 (gR h8 45 a0)) ∧ (vp_in ri9 (ln h9 (gR h8 45 a0))) ∧ ((kd h9 a1 = 17) ∧ D G l (d - 1) mX10_rank [vR a1] h9 (fun v h10 => ∃ ri10, v = some (.int ri10) ∧ ((kd h10 (gR h9 (ri9).toNatClampNeg (gR h8 45 a0)) = 200 ∨ kd h10 (gR h9 (ri9).toNatClampNeg (gR h8 45 a0)) = 300) ∧ (vp_in ri10 (ln h10 (gR h9 (ri9).toNatClampNeg (gR h8 45 a0)))) ∧ ((kd h10 (gR h9 (ri9).toNatClampNeg (gR h8 45 a0)) = 200) ∧ (vp_in ri10 (ln h10 (gR h9 (ri9).toNatClampNeg (gR h8 45 a0)))) ∧ (∀ h11 : VH, h11 = sI h10 (ri10).toNatClampNeg (gR h9 (ri9).toNatClampNeg (gR h8 45 a0)) ((gI h10 (ri10).toNatClampNeg (gR h9 (ri9).toNatClampNeg (gR h8 45 a0))) + (jI 1)) → (post none h11))))) xp))) xp))))))) xp)) xp)) xp))) : D G l d mX2_goes [vR a0, vR a1] h post xp := D_in hd rfl rfl fun V XV C => b_X2_goes_0 C f
theorem b_X2_hint_0 {G : Wd} {l : Launch} {d : Nat} {post : Option Value → VH → Prop} {xp : Nat → VH → Prop} {V : Nat → List (Nat × VT) → List Value → VH → Prop} {XV : Nat → List (Nat × VT) → Nat → VH → Prop} (C : Ctx G l d mX2_hint post xp V XV) {i1 i2 i3 : Int32} {a0 : Nat} {h : VH}
    (f : (kd h a0 = 2) ∧ D G l d mX2_touches [vR a0, vI i1, vI i2, vI i3] h (fun v h1 => ∃ ri1, v = some (.int ri1) ∧ (D G l d mJ19_bitCount [vI ri1] h1 (fun v h2 => ∃ ri2, v = some (.int ri2) ∧ (V 15 [(0, vR a0), (1, vI i1), (2, vI i2), (3, vI i3), (4, vI ri2), (5, vI (jI 0))] [] h2)) xp)) xp) : V 0 [(0, vR a0), (1, vI i1), (2, vI i2), (3, vI i3)] [] h := by
  obtain ⟨p, e, R, s, m, args, below, meth, c, Q, ⟨hx, hb, hr, hlk, hml, hown, hk, hRr, htb, hnm, hsB, htr, hQ⟩, hV, hX⟩ := C
  rw [hV]
  intro H locs ls hR hL hl
  have hb : c.code = cX2_hint := hb
  have hr : meth.sig.returnType = some .int := hr
  have hml : c.maxLocals = 6 := hml
  have hown : s.vm.findClass RX2 = some m.cls := hown
  have hl : lv_has ls 6 (lm [(0, vR a0), (1, vI i1), (2, vI i2), (3, vI i3)]) := hl
  have hsz : ls.size = c.maxLocals := hl.1.trans hml.symm
  subst hQ
  refine w_aload_n hx hb dX2_hint_0 rfl (lv_v hl (k := 0) rfl rfl) ?_
  refine lv_iload_n hx hb dX2_hint_1 rfl (lv_v hl (k := 1) rfl rfl) ?_
  refine lv_iload_n hx hb dX2_hint_2 rfl (lv_v hl (k := 2) rfl rfl) ?_
  refine lv_iload_n hx hb dX2_hint_3 rfl (lv_v hl (k := 3) rfl rfl) ?_
  refine w_call (mi := mX2_touches) (As := [vR a0, vI i1, vI i2, vI i3]) (rest := []) (len := 3) hk hR hL hsz hsB htr hRr (cok_V (i := 1) (C := RX2) (argsL := [.int i1, .int i2, .int i3]) hx hb hown hk hR f.1 (by decide) rfl q1600 q1601 q1602 q1603 kX2_touches.1 kX2_touches.2 rfl dX2_hint_4) f.2 wX2_touches iX2_touches (by decide) (cat_sum _ (Nat.le_of_ble_eq_true rfl)) rfl (fun v h1 H locs f hR hL => ?_) (fun q h9 H locs hp hR hL => x_out hown hlk hR hL (fun x9 h9 => by rw [htb] at h9; exact absurd h9 List.not_mem_nil) ⟨hp.1, hp.2.1⟩ hp.2.2)
  obtain ⟨ri1, rfl, f⟩ := f
  show Wn p l e R s m args below meth c H locs _ (F0 m 7 ls [.int ri1])
  refine w_call (mi := mJ19_bitCount) (As := [vI ri1]) (rest := []) (len := 3) hk hR hL hsz hsB htr hRr (cok_S (argsL := [.int ri1]) hx hb hown hk (q2431) q2432 q172 q2433 kJ19_bitCount.1 kJ19_bitCount.2 rfl dX2_hint_7) f wJ19_bitCount iJ19_bitCount (by decide) (cat_sum _ (Nat.le_of_ble_eq_true rfl)) rfl (fun v h2 H locs f hR hL => ?_) (fun q h9 H locs hp hR hL => x_out hown hlk hR hL (fun x9 h9 => by rw [htb] at h9; exact absurd h9 List.not_mem_nil) ⟨hp.1, hp.2.1⟩ hp.2.2)
  obtain ⟨ri2, rfl, f⟩ := f
  show Wn p l e R s m args below meth c H locs _ (F0 m 10 ls [.int ri2])
  refine w_istore (L' := [(4, vI ri2), (0, vR a0), (1, vI i1), (2, vI i2), (3, vI i3)]) hx hb dX2_hint_10 hl (by decide) rfl (fun ls hl => ?_)
  have hsz : ls.size = c.maxLocals := hl.1.trans hml.symm
  refine w_iconst hx hb dX2_hint_12 ?_
  refine w_istore (L' := [(5, vI (jI 0)), (4, vI ri2), (0, vR a0), (1, vI i1), (2, vI i2), (3, vI i3)]) hx hb dX2_hint_13 hl (by decide) rfl (fun ls hl => ?_)
  have hsz : ls.size = c.maxLocals := hl.1.trans hml.symm
  exact (hV _ _ _ _).mp f H locs _ hR hL (lv_p hl [2, 3, 4, 5, 1, 0] rfl)
theorem b_X2_hint_15 {G : Wd} {l : Launch} {d : Nat} {post : Option Value → VH → Prop} {xp : Nat → VH → Prop} {V : Nat → List (Nat × VT) → List Value → VH → Prop} {XV : Nat → List (Nat × VT) → Nat → VH → Prop} (C : Ctx G l d mX2_hint post xp V XV) {i1 i2 i3 i4 i5 : Int32} {a0 : Nat} {h : VH}
    (f : (kd h a0 = 2) ∧ (((kd h (gR h 41 a0) = 4) ∧ D G l d mJ2_get [vR (gR h 41 a0), vI i1] h (fun v h9 => ∃ b9, v = some (vr b9) ∧ V 27 [(0, vR a0), (1, vI i1), (2, vI i2), (3, vI i3), (4, vI i4), (5, vI i5)] [vr b9, .int i5] h9) xp) ∨ ((kd h (gR h 41 a0) = 9) ∧ D G l d mJ21_get [vR (gR h 41 a0), vI i1] h (fun v h9 => ∃ b9, v = some (vr b9) ∧ V 27 [(0, vR a0), (1, vI i1), (2, vI i2), (3, vI i3), (4, vI i4), (5, vI i5)] [vr b9, .int i5] h9) xp))) : V 15 [(0, vR a0), (1, vI i1), (2, vI i2), (3, vI i3), (4, vI i4), (5, vI i5)] [] h := by
  obtain ⟨p, e, R, s, m, args, below, meth, c, Q, ⟨hx, hb, hr, hlk, hml, hown, hk, hRr, htb, hnm, hsB, htr, hQ⟩, hV, hX⟩ := C
  rw [hV]
  intro H locs ls hR hL hl
  have hb : c.code = cX2_hint := hb
  have hr : meth.sig.returnType = some .int := hr
  have hml : c.maxLocals = 6 := hml
  have hown : s.vm.findClass RX2 = some m.cls := hown
  have hl : lv_has ls 6 (lm [(0, vR a0), (1, vI i1), (2, vI i2), (3, vI i3), (4, vI i4), (5, vI i5)]) := hl
  have hsz : ls.size = c.maxLocals := hl.1.trans hml.symm
  subst hQ
  refine lv_iload hx hb dX2_hint_15 (lv_v hl (k := 5) rfl rfl) ?_
  refine w_aload_n hx hb dX2_hint_17 rfl (lv_v hl (k := 0) rfl rfl) ?_
  obtain ⟨f1, f⟩ := f
  refine w_get (i := 1) (k := 1) (v := vr (gR h 41 a0)) hx hb hown hk hR clk_X2 f1 (by decide) (by decide) q708 (fun _ h9 => h9) rfl dX2_hint_18 ?_
  refine lv_iload_n hx hb dX2_hint_21 rfl (lv_v hl (k := 1) rfl rfl) ?_
  rcases f with f | f
  · exact w_call (mi := mJ2_get) (As := [vR (gR h 41 a0), vI i1]) (rest := [.int i5]) (len := 5) hk hR hL hsz hsB htr hRr (cok_F (n := 1) (x := ⟨"java/util/List", "get", "(I)Ljava/lang/Object;"⟩) (i := 3) (C := RJ2) (argsL := [.int i1]) hx hb hown hk hR f.1 (by decide) rfl ⟨by decide +kernel, by decide +kernel⟩ q1605 q1300 q1299 q1304 q1302 q1134 q1303 q1301 q1305 (by unfold nPar; decide +kernel) rfl dX2_hint_22) f.2 wJ2_get iJ2_get (by decide) (cat_sum _ (Nat.le_of_ble_eq_true rfl)) rfl (fun v h9 H locs hp hR hL => by obtain ⟨z9, rfl, f⟩ := hp; exact (hV _ _ _ _).mp f H locs _ hR hL (lv_p hl [0, 1, 2, 3, 4, 5] rfl)) (fun q h9 H locs hp hR hL => x_out hown hlk hR hL (fun x9 h9 => by rw [htb] at h9; exact absurd h9 List.not_mem_nil) ⟨hp.1, hp.2.1⟩ hp.2.2)
  exact w_call (mi := mJ21_get) (As := [vR (gR h 41 a0), vI i1]) (rest := [.int i5]) (len := 5) hk hR hL hsz hsB htr hRr (cok_F (n := 1) (x := ⟨"java/util/List", "get", "(I)Ljava/lang/Object;"⟩) (i := 8) (C := RJ21) (argsL := [.int i1]) hx hb hown hk hR f.1 (by decide) rfl ⟨by decide +kernel, by decide +kernel⟩ q1605 q1300 q1299 q1317 q1315 q1140 q1316 q1314 q1318 (by unfold nPar; decide +kernel) rfl dX2_hint_22) f.2 wJ21_get iJ21_get (by decide) (cat_sum _ (Nat.le_of_ble_eq_true rfl)) rfl (fun v h9 H locs hp hR hL => by obtain ⟨z9, rfl, f⟩ := hp; exact (hV _ _ _ _).mp f H locs _ hR hL (lv_p hl [0, 1, 2, 3, 4, 5] rfl)) (fun q h9 H locs hp hR hL => x_out hown hlk hR hL (fun x9 h9 => by rw [htb] at h9; exact absurd h9 List.not_mem_nil) ⟨hp.1, hp.2.1⟩ hp.2.2)
theorem b_X2_hint_27 {G : Wd} {l : Launch} {d : Nat} {post : Option Value → VH → Prop} {xp : Nat → VH → Prop} {V : Nat → List (Nat × VT) → List Value → VH → Prop} {XV : Nat → List (Nat × VT) → Nat → VH → Prop} (C : Ctx G l d mX2_hint post xp V XV) {i1 i2 i3 i4 i5 x0 : Int32} {a0 b1 : Nat} {h : VH}
    (f : (b1 = 0 ∨ kd h b1 = 9) ∧ ((kd h b1 = 9) ∧ D G l d mJ21_size [vR b1] h (fun v h1 => ∃ ri1, v = some (.int ri1) ∧ ((ri1 ≤ x0 → ((kd h1 a0 = 2) ∧ ((kd h1 a0 = 2) ∧ (∀ h2 : VH, h2 = sI h1 48 a0 ((gI h1 48 a0) - (jI 1)) → ((kd h2 a0 = 2) ∧ ((isArrR h2 (gR h2 46 a0)) ∧ (vp_in i2 (ln h2 (gR h2 46 a0))) ∧ ((kd h2 (gR h2 (i2).toNatClampNeg (gR h2 46 a0)) = 200 ∨ kd h2 (gR h2 (i2).toNatClampNeg (gR h2 46 a0)) = 300) ∧ (vp_in i3 (ln h2 (gR h2 (i2).toNatClampNeg (gR h2 46 a0)))) ∧ ((kd h2 (gR h2 (i2).toNatClampNeg (gR h2 46 a0)) = 200) ∧ (vp_in i3 (ln h2 (gR h2 (i2).toNatClampNeg (gR h2 46 a0)))) ∧ (∀ h3 : VH, h3 = sI h2 (i3).toNatClampNeg (gR h2 (i2).toNatClampNeg (gR h2 46 a0)) ((gI h2 (i3).toNatClampNeg (gR h2 (i2).toNatClampNeg (gR h2 46 a0))) - (jI 1)) → ((kd h3 a0 = 2) ∧ ((kd h3 (gR h3 44 a0) = 200 ∨ kd h3 (gR h3 44 a0) = 300) ∧ (vp_in (jI 3) (ln h3 (gR h3 44 a0))) ∧ ((kd h3 (gR h3 44 a0) = 200) ∧ (vp_in (jI 3) (ln h3 (gR h3 44 a0))) ∧ (∀ h4 : VH, h4 = sI h3 ((jI 3)).toNatClampNeg (gR h3 44 a0) ((gI h3 ((jI 3)).toNatClampNeg (gR h3 44 a0)) + (jI 1)) → ((kd h4 a0 = 2) ∧ ((kd h4 (gR h4 44 a0) = 200 ∨ kd h4 (gR h4 44 a0) = 300) ∧ (vp_in (jI 5) (ln h4 (gR h4 44 a0))) ∧ ((kd h4 (gR h4 44 a0) = 200) ∧ (vp_in (jI 5) (ln h4 (gR h4 44 a0))) ∧ (∀ h5 : VH, h5 = sI h4 ((jI 5)).toNatClampNeg (gR h4 44 a0) ((gI h4 ((jI 5)).toNatClampNeg (gR h4 44 a0)) + i4) → ((kd h5 a0 = 2) ∧ D G l d mX2_ends [vR a0, vI (jI 2), vI i1, vI (((jI 10) * i2) + i3), vI (jI 0)] h5 (fun v h6 => v = none ∧ (post (some (.int i4)) h6)) xp)))))))))))))))))) ∧ (¬ ri1 ≤ x0 → ((kd h1 a0 = 2) ∧ (((kd h1 (gR h1 41 a0) = 4) ∧ D G l d mJ2_get [vR (gR h1 41 a0), vI i1] h1 (fun v h9 => ∃ b9, v = some (vr b9) ∧ V 46 [(0, vR a0), (1, vI i1), (2, vI i2), (3, vI i3), (4, vI i4), (5, vI i5)] [vr b9] h9) xp) ∨ ((kd h1 (gR h1 41 a0) = 9) ∧ D G l d mJ21_get [vR (gR h1 41 a0), vI i1] h1 (fun v h9 => ∃ b9, v = some (vr b9) ∧ V 46 [(0, vR a0), (1, vI i1), (2, vI i2), (3, vI i3), (4, vI i4), (5, vI i5)] [vr b9] h9) xp)))))) xp)) : V 27 [(0, vR a0), (1, vI i1), (2, vI i2), (3, vI i3), (4, vI i4), (5, vI i5)] [vr b1, .int x0] h := by
  obtain ⟨p, e, R, s, m, args, below, meth, c, Q, ⟨hx, hb, hr, hlk, hml, hown, hk, hRr, htb, hnm, hsB, htr, hQ⟩, hV, hX⟩ := C
  rw [hV]
  intro H locs ls hR hL hl
  have hb : c.code = cX2_hint := hb
  have hr : meth.sig.returnType = some .int := hr
  have hml : c.maxLocals = 6 := hml
  have hown : s.vm.findClass RX2 = some m.cls := hown
  have hl : lv_has ls 6 (lm [(0, vR a0), (1, vI i1), (2, vI i2), (3, vI i3), (4, vI i4), (5, vI i5)]) := hl
  have hsz : ls.size = c.maxLocals := hl.1.trans hml.symm
  subst hQ
  obtain ⟨f1, f⟩ := f
  refine w_castS (i := 8) (C := "java/util/LinkedList") hx hb hown hk hR f1 (by decide) rfl q677 dX2_hint_27 ?_
  refine w_call (mi := mJ21_size) (As := [vR b1]) (rest := [.int x0]) (len := 3) hk hR hL hsz hsB htr hRr (cok_V (i := 8) (C := RJ21) (argsL := []) hx hb hown hk hR f.1 (by decide) rfl q1606 q1143 q3608 q1145 kJ21_size.1 kJ21_size.2 rfl dX2_hint_30) f.2 wJ21_size iJ21_size (by decide) (cat_sum _ (Nat.le_of_ble_eq_true rfl)) rfl (fun v h1 H locs f hR hL => ?_) (fun q h9 H locs hp hR hL => x_out hown hlk hR hL (fun x9 h9 => by rw [htb] at h9; exact absurd h9 List.not_mem_nil) ⟨hp.1, hp.2.1⟩ hp.2.2)
  obtain ⟨ri1, rfl, f⟩ := f
  show Wn p l e R s m args below meth c H locs _ (F0 m 33 ls [.int ri1, .int x0])
  refine lv_icmp_ge (tgt := 68) hx hb dX2_hint_33 (by decide) (fun c9 => ?_) (fun c9 => ?_)
  · have f := f.1 c9
    refine w_aload_n hx hb dX2_hint_68 rfl (lv_v hl (k := 0) rfl rfl) ?_
    refine lv_dup hx hb dX2_hint_69 (vr_cat _) ?_
    obtain ⟨f1, f⟩ := f
    refine w_get (i := 1) (k := 8) (v := .int (gI h1 48 a0)) hx hb hown hk hR clk_X2 f1 (by decide) (by decide) q725 (fun _ h9 => h9) rfl dX2_hint_70 ?_
    refine w_iconst hx hb dX2_hint_73 ?_
    refine lv_isub hx hb dX2_hint_74 ?_
    obtain ⟨f1, f⟩ := f
    refine w_put (i := 1) (k := 8) (c1 := cI (h1.1 a0) 48 ((gI h1 48 a0) - (jI 1))) hx hb hown hk hR hL clk_X2 f1 (by decide) (by decide) q725 (fun _ h9 => h9) rfl ⟨rfl, rfl⟩ rfl (pvI clk_X2 (by decide) rfl rfl) dX2_hint_75 (fun H locs hR hL => ?_)
    obtain ⟨h2, eh2⟩ : ∃ z : VH, z = sI h1 48 a0 ((gI h1 48 a0) - (jI 1)) := ⟨_, rfl⟩
    have hR : Rp G h2 H := by rw [eh2]; exact hR
    have f := f h2 eh2
    refine w_aload_n hx hb dX2_hint_78 rfl (lv_v hl (k := 0) rfl rfl) ?_
    obtain ⟨f1, f⟩ := f
    refine w_get (i := 1) (k := 6) (v := vr (gR h2 46 a0)) hx hb hown hk hR clk_X2 f1 (by decide) (by decide) q720 (fun _ h9 => h9) rfl dX2_hint_79 ?_
    refine lv_iload_n hx hb dX2_hint_82 rfl (lv_v hl (k := 2) rfl rfl) ?_
    obtain ⟨f1, f2, f⟩ := f
    obtain ⟨t9, ty9, g1, g2, g3, g4⟩ := f1.use
    refine w_aald hx hb hk hR g1 g2 g3 g4 f2 dX2_hint_83 ?_
    refine lv_iload_n hx hb dX2_hint_84 rfl (lv_v hl (k := 3) rfl rfl) ?_
    refine lv_dup2_11 hx hb dX2_hint_85 rfl (vr_cat _) ?_
    obtain ⟨f1, f2, f⟩ := f
    refine or_k f1 (fun q9 kk => w_iald (t := 0) hx hb hk hR q9 (by decide) rfl f2 dX2_hint_86 kk) (fun q9 kk => w_iald (t := 100) hx hb hk hR q9 (by decide) rfl f2 dX2_hint_86 kk) ?_
    refine w_iconst hx hb dX2_hint_87 ?_
    refine lv_isub hx hb dX2_hint_88 ?_
    obtain ⟨f1, f2, f⟩ := f
    refine w_iast hx hb hk hR hL f1 f2 dX2_hint_89 (fun H locs hR hL => ?_)
    obtain ⟨h3, eh3⟩ : ∃ z : VH, z = sI h2 (i3).toNatClampNeg (gR h2 (i2).toNatClampNeg (gR h2 46 a0)) ((gI h2 (i3).toNatClampNeg (gR h2 (i2).toNatClampNeg (gR h2 46 a0))) - (jI 1)) := ⟨_, rfl⟩
    have hR : Rp G h3 H := by rw [eh3]; exact hR
    have f := f h3 eh3
    refine w_aload_n hx hb dX2_hint_90 rfl (lv_v hl (k := 0) rfl rfl) ?_
    obtain ⟨f1, f⟩ := f
    refine w_get (i := 1) (k := 4) (v := vr (gR h3 44 a0)) hx hb hown hk hR clk_X2 f1 (by decide) (by decide) q716 (fun _ h9 => h9) rfl dX2_hint_91 ?_
    refine w_iconst hx hb dX2_hint_94 ?_
    refine lv_dup2_11 hx hb dX2_hint_95 rfl (vr_cat _) ?_
    obtain ⟨f1, f2, f⟩ := f
    refine or_k f1 (fun q9 kk => w_iald (t := 0) hx hb hk hR q9 (by decide) rfl f2 dX2_hint_96 kk) (fun q9 kk => w_iald (t := 100) hx hb hk hR q9 (by decide) rfl f2 dX2_hint_96 kk) ?_
    refine w_iconst hx hb dX2_hint_97 ?_
    refine lv_iadd hx hb dX2_hint_98 ?_
    obtain ⟨f1, f2, f⟩ := f
    refine w_iast hx hb hk hR hL f1 f2 dX2_hint_99 (fun H locs hR hL => ?_)
    obtain ⟨h4, eh4⟩ : ∃ z : VH, z = sI h3 ((jI 3)).toNatClampNeg (gR h3 44 a0) ((gI h3 ((jI 3)).toNatClampNeg (gR h3 44 a0)) + (jI 1)) := ⟨_, rfl⟩
    have hR : Rp G h4 H := by rw [eh4]; exact hR
    have f := f h4 eh4
    refine w_aload_n hx hb dX2_hint_100 rfl (lv_v hl (k := 0) rfl rfl) ?_
    obtain ⟨f1, f⟩ := f
    refine w_get (i := 1) (k := 4) (v := vr (gR h4 44 a0)) hx hb hown hk hR clk_X2 f1 (by decide) (by decide) q716 (fun _ h9 => h9) rfl dX2_hint_101 ?_
    refine w_iconst hx hb dX2_hint_104 ?_
    refine lv_dup2_11 hx hb dX2_hint_105 rfl (vr_cat _) ?_
    obtain ⟨f1, f2, f⟩ := f
    refine or_k f1 (fun q9 kk => w_iald (t := 0) hx hb hk hR q9 (by decide) rfl f2 dX2_hint_106 kk) (fun q9 kk => w_iald (t := 100) hx hb hk hR q9 (by decide) rfl f2 dX2_hint_106 kk) ?_
    refine lv_iload hx hb dX2_hint_107 (lv_v hl (k := 4) rfl rfl) ?_
    refine lv_iadd hx hb dX2_hint_109 ?_
    obtain ⟨f1, f2, f⟩ := f
    refine w_iast hx hb hk hR hL f1 f2 dX2_hint_110 (fun H locs hR hL => ?_)
    obtain ⟨h5, eh5⟩ : ∃ z : VH, z = sI h4 ((jI 5)).toNatClampNeg (gR h4 44 a0) ((gI h4 ((jI 5)).toNatClampNeg (gR h4 44 a0)) + i4) := ⟨_, rfl⟩
    have hR : Rp G h5 H := by rw [eh5]; exact hR
    have f := f h5 eh5
    refine w_aload_n hx hb dX2_hint_111 rfl (lv_v hl (k := 0) rfl rfl) ?_
    refine w_iconst hx hb dX2_hint_112 ?_
    refine lv_iload_n hx hb dX2_hint_113 rfl (lv_v hl (k := 1) rfl rfl) ?_
    refine w_bipush hx hb dX2_hint_114 (by decide) ?_
    refine lv_iload_n hx hb dX2_hint_116 rfl (lv_v hl (k := 2) rfl rfl) ?_
    refine lv_imul hx hb dX2_hint_117 ?_
    refine lv_iload_n hx hb dX2_hint_118 rfl (lv_v hl (k := 3) rfl rfl) ?_
    refine lv_iadd hx hb dX2_hint_119 ?_
    refine w_iconst hx hb dX2_hint_120 ?_
    refine w_call (mi := mX2_ends) (As := [vR a0, vI (jI 2), vI i1, vI (((jI 10) * i2) + i3), vI (jI 0)]) (rest := []) (len := 3) hk hR hL hsz hsB htr hRr (cok_V (i := 1) (C := RX2) (argsL := [.int (jI 2), .int i1, .int (((jI 10) * i2) + i3), .int (jI 0)]) hx hb hown hk hR f.1 (by decide) rfl q2192 q2194 qs41 q2195 kX2_ends.1 kX2_ends.2 rfl dX2_hint_121) f.2 wX2_ends iX2_ends (by decide) (cat_sum _ (Nat.le_of_ble_eq_true rfl)) rfl (fun v h6 H locs f hR hL => ?_) (fun q h9 H locs hp hR hL => x_out hown hlk hR hL (fun x9 h9 => by rw [htb] at h9; exact absurd h9 List.not_mem_nil) ⟨hp.1, hp.2.1⟩ hp.2.2)
    obtain ⟨rfl, f⟩ := f
    show Wn p l e R s m args below meth c H locs _ (F0 m 124 ls [])
    refine lv_iload hx hb dX2_hint_124 (lv_v hl (k := 4) rfl rfl) ?_
    exact w_iret hx hb hr hlk hR hL dX2_hint_126 f
  · have f := f.2 c9
    refine w_aload_n hx hb dX2_hint_36 rfl (lv_v hl (k := 0) rfl rfl) ?_
    obtain ⟨f1, f⟩ := f
    refine w_get (i := 1) (k := 1) (v := vr (gR h1 41 a0)) hx hb hown hk hR clk_X2 f1 (by decide) (by decide) q708 (fun _ h9 => h9) rfl dX2_hint_37 ?_
    refine lv_iload_n hx hb dX2_hint_40 rfl (lv_v hl (k := 1) rfl rfl) ?_
    rcases f with f | f
    · exact w_call (mi := mJ2_get) (As := [vR (gR h1 41 a0), vI i1]) (rest := []) (len := 5) hk hR hL hsz hsB htr hRr (cok_F (n := 1) (x := ⟨"java/util/List", "get", "(I)Ljava/lang/Object;"⟩) (i := 3) (C := RJ2) (argsL := [.int i1]) hx hb hown hk hR f.1 (by decide) rfl ⟨by decide +kernel, by decide +kernel⟩ q1605 q1300 q1299 q1304 q1302 q1134 q1303 q1301 q1305 (by unfold nPar; decide +kernel) rfl dX2_hint_41) f.2 wJ2_get iJ2_get (by decide) (cat_sum _ (Nat.le_of_ble_eq_true rfl)) rfl (fun v h9 H locs hp hR hL => by obtain ⟨z9, rfl, f⟩ := hp; exact (hV _ _ _ _).mp f H locs _ hR hL (lv_p hl [0, 1, 2, 3, 4, 5] rfl)) (fun q h9 H locs hp hR hL => x_out hown hlk hR hL (fun x9 h9 => by rw [htb] at h9; exact absurd h9 List.not_mem_nil) ⟨hp.1, hp.2.1⟩ hp.2.2)
    exact w_call (mi := mJ21_get) (As := [vR (gR h1 41 a0), vI i1]) (rest := []) (len := 5) hk hR hL hsz hsB htr hRr (cok_F (n := 1) (x := ⟨"java/util/List", "get", "(I)Ljava/lang/Object;"⟩) (i := 8) (C := RJ21) (argsL := [.int i1]) hx hb hown hk hR f.1 (by decide) rfl ⟨by decide +kernel, by decide +kernel⟩ q1605 q1300 q1299 q1317 q1315 q1140 q1316 q1314 q1318 (by unfold nPar; decide +kernel) rfl dX2_hint_41) f.2 wJ21_get iJ21_get (by decide) (cat_sum _ (Nat.le_of_ble_eq_true rfl)) rfl (fun v h9 H locs hp hR hL => by obtain ⟨z9, rfl, f⟩ := hp; exact (hV _ _ _ _).mp f H locs _ hR hL (lv_p hl [0, 1, 2, 3, 4, 5] rfl)) (fun q h9 H locs hp hR hL => x_out hown hlk hR hL (fun x9 h9 => by rw [htb] at h9; exact absurd h9 List.not_mem_nil) ⟨hp.1, hp.2.1⟩ hp.2.2)
theorem b_X2_hint_46 {G : Wd} {l : Launch} {d : Nat} {post : Option Value → VH → Prop} {xp : Nat → VH → Prop} {V : Nat → List (Nat × VT) → List Value → VH → Prop} {XV : Nat → List (Nat × VT) → Nat → VH → Prop} (C : Ctx G l d mX2_hint post xp V XV) {i1 i2 i3 i4 i5 : Int32} {a0 b0 : Nat} {h : VH}
    (f : (b0 = 0 ∨ kd h b0 = 9) ∧ ((kd h b0 = 9) ∧ D G l d mJ21_get [vR b0, vI i5] h (fun v h1 => ∃ ra1, v = some (vr ra1) ∧ ((ra1 = 0 ∨ kd h1 ra1 = 23) ∧ ((kd h1 ra1 = 23) ∧ D G l d mX12_isTold [vR ra1, vI i2, vI i3] h1 (fun v h2 => v = none ∧ (V 15 [(0, vR a0), (1, vI i1), (2, vI i2), (3, vI i3), (4, vI i4), (5, vI (i5 + (jI 1)))] [] h2)) xp))) xp)) : V 46 [(0, vR a0), (1, vI i1), (2, vI i2), (3, vI i3), (4, vI i4), (5, vI i5)] [vr b0] h := by
  obtain ⟨p, e, R, s, m, args, below, meth, c, Q, ⟨hx, hb, hr, hlk, hml, hown, hk, hRr, htb, hnm, hsB, htr, hQ⟩, hV, hX⟩ := C
  rw [hV]
  intro H locs ls hR hL hl
  have hb : c.code = cX2_hint := hb
  have hr : meth.sig.returnType = some .int := hr
  have hml : c.maxLocals = 6 := hml
  have hown : s.vm.findClass RX2 = some m.cls := hown
  have hl : lv_has ls 6 (lm [(0, vR a0), (1, vI i1), (2, vI i2), (3, vI i3), (4, vI i4), (5, vI i5)]) := hl
  have hsz : ls.size = c.maxLocals := hl.1.trans hml.symm
  subst hQ
  obtain ⟨f1, f⟩ := f
  refine w_castS (i := 8) (C := "java/util/LinkedList") hx hb hown hk hR f1 (by decide) rfl q677 dX2_hint_46 ?_
  refine lv_iload hx hb dX2_hint_49 (lv_v hl (k := 5) rfl rfl) ?_
  refine w_call (mi := mJ21_get) (As := [vR b0, vI i5]) (rest := []) (len := 3) hk hR hL hsz hsB htr hRr (cok_V (i := 8) (C := RJ21) (argsL := [.int i5]) hx hb hown hk hR f.1 (by decide) rfl q1607 q1316 q3609 q1318 kJ21_get.1 kJ21_get.2 rfl dX2_hint_51) f.2 wJ21_get iJ21_get (by decide) (cat_sum _ (Nat.le_of_ble_eq_true rfl)) rfl (fun v h1 H locs f hR hL => ?_) (fun q h9 H locs hp hR hL => x_out hown hlk hR hL (fun x9 h9 => by rw [htb] at h9; exact absurd h9 List.not_mem_nil) ⟨hp.1, hp.2.1⟩ hp.2.2)
  obtain ⟨ra1, rfl, f⟩ := f
  show Wn p l e R s m args below meth c H locs _ (F0 m 54 ls [vr ra1])
  obtain ⟨f1, f⟩ := f
  refine w_castS (i := 22) (C := "HintTeam$Held") hx hb hown hk hR f1 (by decide) rfl q1608 dX2_hint_54 ?_
  refine lv_iload_n hx hb dX2_hint_57 rfl (lv_v hl (k := 2) rfl rfl) ?_
  refine lv_iload_n hx hb dX2_hint_58 rfl (lv_v hl (k := 3) rfl rfl) ?_
  refine w_call (mi := mX12_isTold) (As := [vR ra1, vI i2, vI i3]) (rest := []) (len := 3) hk hR hL hsz hsB htr hRr (cok_V (i := 22) (C := RX12) (argsL := [.int i2, .int i3]) hx hb hown hk hR f.1 (by decide) rfl q2437 q2438 q2439 q2440 kX12_isTold.1 kX12_isTold.2 rfl dX2_hint_59) f.2 wX12_isTold iX12_isTold (by decide) (cat_sum _ (Nat.le_of_ble_eq_true rfl)) rfl (fun v h2 H locs f hR hL => ?_) (fun q h9 H locs hp hR hL => x_out hown hlk hR hL (fun x9 h9 => by rw [htb] at h9; exact absurd h9 List.not_mem_nil) ⟨hp.1, hp.2.1⟩ hp.2.2)
  obtain ⟨rfl, f⟩ := f
  show Wn p l e R s m args below meth c H locs _ (F0 m 62 ls [])
  refine w_iinc (L' := [(5, vI (i5 + (jI 1))), (0, vR a0), (1, vI i1), (2, vI i2), (3, vI i3), (4, vI i4)]) hx hb dX2_hint_62 hl (k := 5) rfl (by decide) rfl (fun ls hl => ?_)
  have hsz : ls.size = c.maxLocals := hl.1.trans hml.symm
  refine lv_goto (tgt := 15) hx hb dX2_hint_65 (by decide) ?_
  exact (hV _ _ _ _).mp f H locs _ hR hL (lv_p hl [1, 2, 3, 4, 5, 0] rfl)
theorem b_X2_inHands_0 {G : Wd} {l : Launch} {d : Nat} {post : Option Value → VH → Prop} {xp : Nat → VH → Prop} {V : Nat → List (Nat × VT) → List Value → VH → Prop} {XV : Nat → List (Nat × VT) → Nat → VH → Prop} (C : Ctx G l d mX2_inHands post xp V XV) {i1 i2 i3 : Int32} {a0 : Nat} {h : VH}
    (f : V 6 [(0, vR a0), (1, vI i1), (2, vI i2), (3, vI i3), (4, vI (jI 0)), (5, vI (jI 0))] [] h) : V 0 [(0, vR a0), (1, vI i1), (2, vI i2), (3, vI i3)] [] h := by
  obtain ⟨p, e, R, s, m, args, below, meth, c, Q, ⟨hx, hb, hr, hlk, hml, hown, hk, hRr, htb, hnm, hsB, htr, hQ⟩, hV, hX⟩ := C
  rw [hV]
  intro H locs ls hR hL hl
  have hb : c.code = cX2_inHands := hb
  have hr : meth.sig.returnType = some .int := hr
  have hml : c.maxLocals = 8 := hml
  have hown : s.vm.findClass RX2 = some m.cls := hown
  have hl : lv_has ls 8 (lm [(0, vR a0), (1, vI i1), (2, vI i2), (3, vI i3)]) := hl
  have hsz : ls.size = c.maxLocals := hl.1.trans hml.symm
  subst hQ
  refine w_iconst hx hb dX2_inHands_0 ?_
  refine w_istore (L' := [(4, vI (jI 0)), (0, vR a0), (1, vI i1), (2, vI i2), (3, vI i3)]) hx hb dX2_inHands_1 hl (by decide) rfl (fun ls hl => ?_)
  have hsz : ls.size = c.maxLocals := hl.1.trans hml.symm
  refine w_iconst hx hb dX2_inHands_3 ?_
  refine w_istore (L' := [(5, vI (jI 0)), (4, vI (jI 0)), (0, vR a0), (1, vI i1), (2, vI i2), (3, vI i3)]) hx hb dX2_inHands_4 hl (by decide) rfl (fun ls hl => ?_)
  have hsz : ls.size = c.maxLocals := hl.1.trans hml.symm
  exact (hV _ _ _ _).mp f H locs _ hR hL (lv_p hl [2, 3, 4, 5, 1, 0] rfl)
theorem b_X2_inHands_6 {G : Wd} {l : Launch} {d : Nat} {post : Option Value → VH → Prop} {xp : Nat → VH → Prop} {V : Nat → List (Nat × VT) → List Value → VH → Prop} {XV : Nat → List (Nat × VT) → Nat → VH → Prop} (C : Ctx G l d mX2_inHands post xp V XV) {i1 i2 i3 i4 i5 : Int32} {a0 : Nat} {h : VH}
    (f : (kd h a0 = 2) ∧ (((kd h (gR h 41 a0) = 4) ∧ D G l d mJ2_size [vR (gR h 41 a0)] h (fun v h9 => ∃ x9, v = some (.int x9) ∧ V 17 [(0, vR a0), (1, vI i1), (2, vI i2), (3, vI i3), (4, vI i4), (5, vI i5)] [.int x9, .int i5] h9) xp) ∨ ((kd h (gR h 41 a0) = 9) ∧ D G l d mJ21_size [vR (gR h 41 a0)] h (fun v h9 => ∃ x9, v = some (.int x9) ∧ V 17 [(0, vR a0), (1, vI i1), (2, vI i2), (3, vI i3), (4, vI i4), (5, vI i5)] [.int x9, .int i5] h9) xp))) : V 6 [(0, vR a0), (1, vI i1), (2, vI i2), (3, vI i3), (4, vI i4), (5, vI i5)] [] h := by
  obtain ⟨p, e, R, s, m, args, below, meth, c, Q, ⟨hx, hb, hr, hlk, hml, hown, hk, hRr, htb, hnm, hsB, htr, hQ⟩, hV, hX⟩ := C
  rw [hV]
  intro H locs ls hR hL hl
  have hb : c.code = cX2_inHands := hb
  have hr : meth.sig.returnType = some .int := hr
  have hml : c.maxLocals = 8 := hml
  have hown : s.vm.findClass RX2 = some m.cls := hown
  have hl : lv_has ls 8 (lm [(0, vR a0), (1, vI i1), (2, vI i2), (3, vI i3), (4, vI i4), (5, vI i5)]) := hl
  have hsz : ls.size = c.maxLocals := hl.1.trans hml.symm
  subst hQ
  refine lv_iload hx hb dX2_inHands_6 (lv_v hl (k := 5) rfl rfl) ?_
  refine w_aload_n hx hb dX2_inHands_8 rfl (lv_v hl (k := 0) rfl rfl) ?_
  obtain ⟨f1, f⟩ := f
  refine w_get (i := 1) (k := 1) (v := vr (gR h 41 a0)) hx hb hown hk hR clk_X2 f1 (by decide) (by decide) q708 (fun _ h9 => h9) rfl dX2_inHands_9 ?_
  rcases f with f | f
  · exact w_call (mi := mJ2_size) (As := [vR (gR h 41 a0)]) (rest := [.int i5]) (len := 5) hk hR hL hsz hsB htr hRr (cok_F (n := 0) (x := ⟨"java/util/List", "size", "()I"⟩) (i := 3) (C := RJ2) (argsL := []) hx hb hown hk hR f.1 (by decide) rfl ⟨by decide +kernel, by decide +kernel⟩ q2036 q1133 q1132 q1138 q1136 q1134 q1137 q1135 q1139 (by unfold nPar; decide +kernel) rfl dX2_inHands_12) f.2 wJ2_size iJ2_size (by decide) (cat_sum _ (Nat.le_of_ble_eq_true rfl)) rfl (fun v h9 H locs hp hR hL => by obtain ⟨z9, rfl, f⟩ := hp; exact (hV _ _ _ _).mp f H locs _ hR hL (lv_p hl [0, 1, 2, 3, 4, 5] rfl)) (fun q h9 H locs hp hR hL => x_out hown hlk hR hL (fun x9 h9 => by rw [htb] at h9; exact absurd h9 List.not_mem_nil) ⟨hp.1, hp.2.1⟩ hp.2.2)
  exact w_call (mi := mJ21_size) (As := [vR (gR h 41 a0)]) (rest := [.int i5]) (len := 5) hk hR hL hsz hsB htr hRr (cok_F (n := 0) (x := ⟨"java/util/List", "size", "()I"⟩) (i := 8) (C := RJ21) (argsL := []) hx hb hown hk hR f.1 (by decide) rfl ⟨by decide +kernel, by decide +kernel⟩ q2036 q1133 q1132 q1144 q1142 q1140 q1143 q1141 q1145 (by unfold nPar; decide +kernel) rfl dX2_inHands_12) f.2 wJ21_size iJ21_size (by decide) (cat_sum _ (Nat.le_of_ble_eq_true rfl)) rfl (fun v h9 H locs hp hR hL => by obtain ⟨z9, rfl, f⟩ := hp; exact (hV _ _ _ _).mp f H locs _ hR hL (lv_p hl [0, 1, 2, 3, 4, 5] rfl)) (fun q h9 H locs hp hR hL => x_out hown hlk hR hL (fun x9 h9 => by rw [htb] at h9; exact absurd h9 List.not_mem_nil) ⟨hp.1, hp.2.1⟩ hp.2.2)
theorem b_X2_inHands_17 {G : Wd} {l : Launch} {d : Nat} {post : Option Value → VH → Prop} {xp : Nat → VH → Prop} {V : Nat → List (Nat × VT) → List Value → VH → Prop} {XV : Nat → List (Nat × VT) → Nat → VH → Prop} (C : Ctx G l d mX2_inHands post xp V XV) {i1 i2 i3 i4 i5 x0 x1 : Int32} {a0 : Nat} {h : VH}
    (f : (x1 ≤ x0 → (post (some (.int i4)) h)) ∧ (¬ x1 ≤ x0 → (V 23 [(0, vR a0), (1, vI i1), (2, vI i2), (3, vI i3), (4, vI i4), (5, vI i5), (6, vI (jI 0))] [] h))) : V 17 [(0, vR a0), (1, vI i1), (2, vI i2), (3, vI i3), (4, vI i4), (5, vI i5)] [.int x1, .int x0] h := by
  obtain ⟨p, e, R, s, m, args, below, meth, c, Q, ⟨hx, hb, hr, hlk, hml, hown, hk, hRr, htb, hnm, hsB, htr, hQ⟩, hV, hX⟩ := C
  rw [hV]
  intro H locs ls hR hL hl
  have hb : c.code = cX2_inHands := hb
  have hr : meth.sig.returnType = some .int := hr
  have hml : c.maxLocals = 8 := hml
  have hown : s.vm.findClass RX2 = some m.cls := hown
  have hl : lv_has ls 8 (lm [(0, vR a0), (1, vI i1), (2, vI i2), (3, vI i3), (4, vI i4), (5, vI i5)]) := hl
  have hsz : ls.size = c.maxLocals := hl.1.trans hml.symm
  subst hQ
  refine lv_icmp_ge (tgt := 118) hx hb dX2_inHands_17 (by decide) (fun c9 => ?_) (fun c9 => ?_)
  · have f := f.1 c9
    refine lv_iload hx hb dX2_inHands_118 (lv_v hl (k := 4) rfl rfl) ?_
    exact w_iret hx hb hr hlk hR hL dX2_inHands_120 f
  · have f := f.2 c9
    refine w_iconst hx hb dX2_inHands_20 ?_
    refine w_istore (L' := [(6, vI (jI 0)), (0, vR a0), (1, vI i1), (2, vI i2), (3, vI i3), (4, vI i4), (5, vI i5)]) hx hb dX2_inHands_21 hl (by decide) rfl (fun ls hl => ?_)
    have hsz : ls.size = c.maxLocals := hl.1.trans hml.symm
    exact (hV _ _ _ _).mp f H locs _ hR hL (lv_p hl [1, 2, 3, 4, 5, 6, 0] rfl)
theorem b_X2_inHands_23 {G : Wd} {l : Launch} {d : Nat} {post : Option Value → VH → Prop} {xp : Nat → VH → Prop} {V : Nat → List (Nat × VT) → List Value → VH → Prop} {XV : Nat → List (Nat × VT) → Nat → VH → Prop} (C : Ctx G l d mX2_inHands post xp V XV) {i1 i2 i3 i4 i5 i6 : Int32} {a0 : Nat} {h : VH}
    (f : (kd h a0 = 2) ∧ (((kd h (gR h 41 a0) = 4) ∧ D G l d mJ2_get [vR (gR h 41 a0), vI i5] h (fun v h9 => ∃ b9, v = some (vr b9) ∧ V 36 [(0, vR a0), (1, vI i1), (2, vI i2), (3, vI i3), (4, vI i4), (5, vI i5), (6, vI i6)] [vr b9, .int i6] h9) xp) ∨ ((kd h (gR h 41 a0) = 9) ∧ D G l d mJ21_get [vR (gR h 41 a0), vI i5] h (fun v h9 => ∃ b9, v = some (vr b9) ∧ V 36 [(0, vR a0), (1, vI i1), (2, vI i2), (3, vI i3), (4, vI i4), (5, vI i5), (6, vI i6)] [vr b9, .int i6] h9) xp))) : V 23 [(0, vR a0), (1, vI i1), (2, vI i2), (3, vI i3), (4, vI i4), (5, vI i5), (6, vI i6)] [] h := by
  obtain ⟨p, e, R, s, m, args, below, meth, c, Q, ⟨hx, hb, hr, hlk, hml, hown, hk, hRr, htb, hnm, hsB, htr, hQ⟩, hV, hX⟩ := C
  rw [hV]
  intro H locs ls hR hL hl
  have hb : c.code = cX2_inHands := hb
  have hr : meth.sig.returnType = some .int := hr
  have hml : c.maxLocals = 8 := hml
  have hown : s.vm.findClass RX2 = some m.cls := hown
  have hl : lv_has ls 8 (lm [(0, vR a0), (1, vI i1), (2, vI i2), (3, vI i3), (4, vI i4), (5, vI i5), (6, vI i6)]) := hl
  have hsz : ls.size = c.maxLocals := hl.1.trans hml.symm
  subst hQ
  refine lv_iload hx hb dX2_inHands_23 (lv_v hl (k := 6) rfl rfl) ?_
  refine w_aload_n hx hb dX2_inHands_25 rfl (lv_v hl (k := 0) rfl rfl) ?_
  obtain ⟨f1, f⟩ := f
  refine w_get (i := 1) (k := 1) (v := vr (gR h 41 a0)) hx hb hown hk hR clk_X2 f1 (by decide) (by decide) q708 (fun _ h9 => h9) rfl dX2_inHands_26 ?_
  refine lv_iload hx hb dX2_inHands_29 (lv_v hl (k := 5) rfl rfl) ?_
  rcases f with f | f
  · exact w_call (mi := mJ2_get) (As := [vR (gR h 41 a0), vI i5]) (rest := [.int i6]) (len := 5) hk hR hL hsz hsB htr hRr (cok_F (n := 1) (x := ⟨"java/util/List", "get", "(I)Ljava/lang/Object;"⟩) (i := 3) (C := RJ2) (argsL := [.int i5]) hx hb hown hk hR f.1 (by decide) rfl ⟨by decide +kernel, by decide +kernel⟩ q1605 q1300 q1299 q1304 q1302 q1134 q1303 q1301 q1305 (by unfold nPar; decide +kernel) rfl dX2_inHands_31) f.2 wJ2_get iJ2_get (by decide) (cat_sum _ (Nat.le_of_ble_eq_true rfl)) rfl (fun v h9 H locs hp hR hL => by obtain ⟨z9, rfl, f⟩ := hp; exact (hV _ _ _ _).mp f H locs _ hR hL (lv_p hl [0, 1, 2, 3, 4, 5, 6] rfl)) (fun q h9 H locs hp hR hL => x_out hown hlk hR hL (fun x9 h9 => by rw [htb] at h9; exact absurd h9 List.not_mem_nil) ⟨hp.1, hp.2.1⟩ hp.2.2)
  exact w_call (mi := mJ21_get) (As := [vR (gR h 41 a0), vI i5]) (rest := [.int i6]) (len := 5) hk hR hL hsz hsB htr hRr (cok_F (n := 1) (x := ⟨"java/util/List", "get", "(I)Ljava/lang/Object;"⟩) (i := 8) (C := RJ21) (argsL := [.int i5]) hx hb hown hk hR f.1 (by decide) rfl ⟨by decide +kernel, by decide +kernel⟩ q1605 q1300 q1299 q1317 q1315 q1140 q1316 q1314 q1318 (by unfold nPar; decide +kernel) rfl dX2_inHands_31) f.2 wJ21_get iJ21_get (by decide) (cat_sum _ (Nat.le_of_ble_eq_true rfl)) rfl (fun v h9 H locs hp hR hL => by obtain ⟨z9, rfl, f⟩ := hp; exact (hV _ _ _ _).mp f H locs _ hR hL (lv_p hl [0, 1, 2, 3, 4, 5, 6] rfl)) (fun q h9 H locs hp hR hL => x_out hown hlk hR hL (fun x9 h9 => by rw [htb] at h9; exact absurd h9 List.not_mem_nil) ⟨hp.1, hp.2.1⟩ hp.2.2)
theorem b_X2_inHands_36 {G : Wd} {l : Launch} {d : Nat} {post : Option Value → VH → Prop} {xp : Nat → VH → Prop} {V : Nat → List (Nat × VT) → List Value → VH → Prop} {XV : Nat → List (Nat × VT) → Nat → VH → Prop} (C : Ctx G l d mX2_inHands post xp V XV) {i1 i2 i3 i4 i5 i6 x0 : Int32} {a0 b1 : Nat} {h : VH}
    (f : (b1 = 0 ∨ kd h b1 = 9) ∧ ((kd h b1 = 9) ∧ D G l d mJ21_size [vR b1] h (fun v h1 => ∃ ri1, v = some (.int ri1) ∧ ((ri1 ≤ x0 → (V 6 [(0, vR a0), (1, vI i1), (2, vI i2), (3, vI i3), (4, vI i4), (5, vI (i5 + (jI 1)))] [] h1)) ∧ (¬ ri1 ≤ x0 → ((i5 = i3 → (V 6 [(0, vR a0), (1, vI i1), (2, vI i2), (3, vI i3), (4, vI i4), (5, vI (i5 + (jI 1)))] [] h1)) ∧ (¬ i5 = i3 → ((kd h1 a0 = 2) ∧ (((kd h1 (gR h1 41 a0) = 4) ∧ D G l d mJ2_get [vR (gR h1 41 a0), vI i5] h1 (fun v h9 => ∃ b9, v = some (vr b9) ∧ V 62 [(0, vR a0), (1, vI i1), (2, vI i2), (3, vI i3), (4, vI i4), (5, vI i5), (6, vI i6)] [vr b9] h9) xp) ∨ ((kd h1 (gR h1 41 a0) = 9) ∧ D G l d mJ21_get [vR (gR h1 41 a0), vI i5] h1 (fun v h9 => ∃ b9, v = some (vr b9) ∧ V 62 [(0, vR a0), (1, vI i1), (2, vI i2), (3, vI i3), (4, vI i4), (5, vI i5), (6, vI i6)] [vr b9] h9) xp)))))))) xp)) : V 36 [(0, vR a0), (1, vI i1), (2, vI i2), (3, vI i3), (4, vI i4), (5, vI i5), (6, vI i6)] [vr b1, .int x0] h := by
  obtain ⟨p, e, R, s, m, args, below, meth, c, Q, ⟨hx, hb, hr, hlk, hml, hown, hk, hRr, htb, hnm, hsB, htr, hQ⟩, hV, hX⟩ := C
  rw [hV]
  intro H locs ls hR hL hl
  have hb : c.code = cX2_inHands := hb
  have hr : meth.sig.returnType = some .int := hr
  have hml : c.maxLocals = 8 := hml
  have hown : s.vm.findClass RX2 = some m.cls := hown
  have hl : lv_has ls 8 (lm [(0, vR a0), (1, vI i1), (2, vI i2), (3, vI i3), (4, vI i4), (5, vI i5), (6, vI i6)]) := hl
  have hsz : ls.size = c.maxLocals := hl.1.trans hml.symm
  subst hQ
  obtain ⟨f1, f⟩ := f
  refine w_castS (i := 8) (C := "java/util/LinkedList") hx hb hown hk hR f1 (by decide) rfl q677 dX2_inHands_36 ?_
  refine w_call (mi := mJ21_size) (As := [vR b1]) (rest := [.int x0]) (len := 3) hk hR hL hsz hsB htr hRr (cok_V (i := 8) (C := RJ21) (argsL := []) hx hb hown hk hR f.1 (by decide) rfl q1606 q1143 q3608 q1145 kJ21_size.1 kJ21_size.2 rfl dX2_inHands_39) f.2 wJ21_size iJ21_size (by decide) (cat_sum _ (Nat.le_of_ble_eq_true rfl)) rfl (fun v h1 H locs f hR hL => ?_) (fun q h9 H locs hp hR hL => x_out hown hlk hR hL (fun x9 h9 => by rw [htb] at h9; exact absurd h9 List.not_mem_nil) ⟨hp.1, hp.2.1⟩ hp.2.2)
  obtain ⟨ri1, rfl, f⟩ := f
  show Wn p l e R s m args below meth c H locs _ (F0 m 42 ls [.int ri1, .int x0])
  refine lv_icmp_ge (tgt := 112) hx hb dX2_inHands_42 (by decide) (fun c9 => ?_) (fun c9 => ?_)
  · have f := f.1 c9
    refine w_iinc (L' := [(5, vI (i5 + (jI 1))), (0, vR a0), (1, vI i1), (2, vI i2), (3, vI i3), (4, vI i4), (6, vI i6)]) hx hb dX2_inHands_112 hl (k := 5) rfl (by decide) rfl (fun ls hl => ?_)
    have hsz : ls.size = c.maxLocals := hl.1.trans hml.symm
    refine lv_goto (tgt := 6) hx hb dX2_inHands_115 (by decide) ?_
    exact (hV _ _ _ _).mp f H locs _ hR hL (lv_p hl [1, 2, 3, 4, 5, 0] rfl)
  · have f := f.2 c9
    refine lv_iload hx hb dX2_inHands_45 (lv_v hl (k := 5) rfl rfl) ?_
    refine lv_iload_n hx hb dX2_inHands_47 rfl (lv_v hl (k := 3) rfl rfl) ?_
    refine lv_icmp_eq (tgt := 112) hx hb dX2_inHands_48 (by decide) (fun c9 => ?_) (fun c9 => ?_)
    · have f := f.1 c9
      refine w_iinc (L' := [(5, vI (i5 + (jI 1))), (0, vR a0), (1, vI i1), (2, vI i2), (3, vI i3), (4, vI i4), (6, vI i6)]) hx hb dX2_inHands_112 hl (k := 5) rfl (by decide) rfl (fun ls hl => ?_)
      have hsz : ls.size = c.maxLocals := hl.1.trans hml.symm
      refine lv_goto (tgt := 6) hx hb dX2_inHands_115 (by decide) ?_
      exact (hV _ _ _ _).mp f H locs _ hR hL (lv_p hl [1, 2, 3, 4, 5, 0] rfl)
    · have f := f.2 c9
      refine w_aload_n hx hb dX2_inHands_51 rfl (lv_v hl (k := 0) rfl rfl) ?_
      obtain ⟨f1, f⟩ := f
      refine w_get (i := 1) (k := 1) (v := vr (gR h1 41 a0)) hx hb hown hk hR clk_X2 f1 (by decide) (by decide) q708 (fun _ h9 => h9) rfl dX2_inHands_52 ?_
      refine lv_iload hx hb dX2_inHands_55 (lv_v hl (k := 5) rfl rfl) ?_
      rcases f with f | f
      · exact w_call (mi := mJ2_get) (As := [vR (gR h1 41 a0), vI i5]) (rest := []) (len := 5) hk hR hL hsz hsB htr hRr (cok_F (n := 1) (x := ⟨"java/util/List", "get", "(I)Ljava/lang/Object;"⟩) (i := 3) (C := RJ2) (argsL := [.int i5]) hx hb hown hk hR f.1 (by decide) rfl ⟨by decide +kernel, by decide +kernel⟩ q1605 q1300 q1299 q1304 q1302 q1134 q1303 q1301 q1305 (by unfold nPar; decide +kernel) rfl dX2_inHands_57) f.2 wJ2_get iJ2_get (by decide) (cat_sum _ (Nat.le_of_ble_eq_true rfl)) rfl (fun v h9 H locs hp hR hL => by obtain ⟨z9, rfl, f⟩ := hp; exact (hV _ _ _ _).mp f H locs _ hR hL (lv_p hl [0, 1, 2, 3, 4, 5, 6] rfl)) (fun q h9 H locs hp hR hL => x_out hown hlk hR hL (fun x9 h9 => by rw [htb] at h9; exact absurd h9 List.not_mem_nil) ⟨hp.1, hp.2.1⟩ hp.2.2)
      exact w_call (mi := mJ21_get) (As := [vR (gR h1 41 a0), vI i5]) (rest := []) (len := 5) hk hR hL hsz hsB htr hRr (cok_F (n := 1) (x := ⟨"java/util/List", "get", "(I)Ljava/lang/Object;"⟩) (i := 8) (C := RJ21) (argsL := [.int i5]) hx hb hown hk hR f.1 (by decide) rfl ⟨by decide +kernel, by decide +kernel⟩ q1605 q1300 q1299 q1317 q1315 q1140 q1316 q1314 q1318 (by unfold nPar; decide +kernel) rfl dX2_inHands_57) f.2 wJ21_get iJ21_get (by decide) (cat_sum _ (Nat.le_of_ble_eq_true rfl)) rfl (fun v h9 H locs hp hR hL => by obtain ⟨z9, rfl, f⟩ := hp; exact (hV _ _ _ _).mp f H locs _ hR hL (lv_p hl [0, 1, 2, 3, 4, 5, 6] rfl)) (fun q h9 H locs hp hR hL => x_out hown hlk hR hL (fun x9 h9 => by rw [htb] at h9; exact absurd h9 List.not_mem_nil) ⟨hp.1, hp.2.1⟩ hp.2.2)
theorem b_X2_inHands_62 {G : Wd} {l : Launch} {d : Nat} {post : Option Value → VH → Prop} {xp : Nat → VH → Prop} {V : Nat → List (Nat × VT) → List Value → VH → Prop} {XV : Nat → List (Nat × VT) → Nat → VH → Prop} (C : Ctx G l d mX2_inHands post xp V XV) {i1 i2 i3 i4 i5 i6 : Int32} {a0 b0 : Nat} {h : VH}
    (f : (b0 = 0 ∨ kd h b0 = 9) ∧ ((kd h b0 = 9) ∧ D G l d mJ21_get [vR b0, vI i6] h (fun v h1 => ∃ ra1, v = some (vr ra1) ∧ ((ra1 = 0 ∨ kd h1 ra1 = 23) ∧ ((kd h1 ra1 = 23) ∧ ((kd h1 (gR h1 880 ra1) = 17) ∧ D G l d mX10_color [vR (gR h1 880 ra1)] h1 (fun v h2 => ∃ ri2, v = some (.int ri2) ∧ ((¬ ri2 = i1 → (V 23 [(0, vR a0), (1, vI i1), (2, vI i2), (3, vI i3), (4, vI (i4 + (jI 0))), (5, vI i5), (6, vI (i6 + (jI 1)))] [] h2)) ∧ (ri2 = i1 → ((kd h2 (gR h1 880 ra1) = 17) ∧ D G l d mX10_rank [vR (gR h1 880 ra1)] h2 (fun v h3 => ∃ ri3, v = some (.int ri3) ∧ ((¬ ri3 = i2 → (V 23 [(0, vR a0), (1, vI i1), (2, vI i2), (3, vI i3), (4, vI (i4 + (jI 0))), (5, vI i5), (6, vI (i6 + (jI 1)))] [] h3)) ∧ (ri3 = i2 → (V 23 [(0, vR a0), (1, vI i1), (2, vI i2), (3, vI i3), (4, vI (i4 + (jI 1))), (5, vI i5), (6, vI (i6 + (jI 1)))] [] h3)))) xp)))) xp)))) xp)) : V 62 [(0, vR a0), (1, vI i1), (2, vI i2), (3, vI i3), (4, vI i4), (5, vI i5), (6, vI i6)] [vr b0] h := by
  obtain ⟨p, e, R, s, m, args, below, meth, c, Q, ⟨hx, hb, hr, hlk, hml, hown, hk, hRr, htb, hnm, hsB, htr, hQ⟩, hV, hX⟩ := C
  rw [hV]
  intro H locs ls hR hL hl
  have hb : c.code = cX2_inHands := hb
  have hr : meth.sig.returnType = some .int := hr
  have hml : c.maxLocals = 8 := hml
  have hown : s.vm.findClass RX2 = some m.cls := hown
  have hl : lv_has ls 8 (lm [(0, vR a0), (1, vI i1), (2, vI i2), (3, vI i3), (4, vI i4), (5, vI i5), (6, vI i6)]) := hl
  have hsz : ls.size = c.maxLocals := hl.1.trans hml.symm
  subst hQ
  obtain ⟨f1, f⟩ := f
  refine w_castS (i := 8) (C := "java/util/LinkedList") hx hb hown hk hR f1 (by decide) rfl q677 dX2_inHands_62 ?_
  refine lv_iload hx hb dX2_inHands_65 (lv_v hl (k := 6) rfl rfl) ?_
  refine w_call (mi := mJ21_get) (As := [vR b0, vI i6]) (rest := []) (len := 3) hk hR hL hsz hsB htr hRr (cok_V (i := 8) (C := RJ21) (argsL := [.int i6]) hx hb hown hk hR f.1 (by decide) rfl q1607 q1316 q3609 q1318 kJ21_get.1 kJ21_get.2 rfl dX2_inHands_67) f.2 wJ21_get iJ21_get (by decide) (cat_sum _ (Nat.le_of_ble_eq_true rfl)) rfl (fun v h1 H locs f hR hL => ?_) (fun q h9 H locs hp hR hL => x_out hown hlk hR hL (fun x9 h9 => by rw [htb] at h9; exact absurd h9 List.not_mem_nil) ⟨hp.1, hp.2.1⟩ hp.2.2)
  obtain ⟨ra1, rfl, f⟩ := f
  show Wn p l e R s m args below meth c H locs _ (F0 m 70 ls [vr ra1])
  obtain ⟨f1, f⟩ := f
  refine w_castS (i := 22) (C := "HintTeam$Held") hx hb hown hk hR f1 (by decide) rfl q1608 dX2_inHands_70 ?_
  obtain ⟨f1, f⟩ := f
  refine w_getN (i := 22) (k := 0) (v := vr (gR h1 880 ra1)) hx hb hown hk hR clk_X12 f1 (by decide) (by decide) q2045 (fun _ h9 => h9) rfl dX2_inHands_73 ?_
  refine w_astore' (L' := [(7, vR (gR h1 880 ra1)), (0, vR a0), (1, vI i1), (2, vI i2), (3, vI i3), (4, vI i4), (5, vI i5), (6, vI i6)]) hx hb dX2_inHands_76 hl (by decide) rfl (fun ls hl => ?_)
  have hsz : ls.size = c.maxLocals := hl.1.trans hml.symm
  refine lv_iload hx hb dX2_inHands_78 (lv_v hl (k := 5) rfl rfl) ?_
  refine w_aload (a := gR h1 880 ra1) hx hb dX2_inHands_80 (lv_v hl (k := 0) rfl rfl) ?_
  refine w_call (mi := mX10_color) (As := [vR (gR h1 880 ra1)]) (rest := [.int i4]) (len := 3) hk hR hL hsz hsB htr hRr (cok_V (i := 16) (C := RX10) (argsL := []) hx hb hown hk hR f.1 (by decide) rfl q2247 q1372 q1373 q1374 kX10_color.1 kX10_color.2 rfl dX2_inHands_82) f.2 wX10_color iX10_color (by decide) (cat_sum _ (Nat.le_of_ble_eq_true rfl)) rfl (fun v h2 H locs f hR hL => ?_) (fun q h9 H locs hp hR hL => x_out hown hlk hR hL (fun x9 h9 => by rw [htb] at h9; exact absurd h9 List.not_mem_nil) ⟨hp.1, hp.2.1⟩ hp.2.2)
  obtain ⟨ri2, rfl, f⟩ := f
  show Wn p l e R s m args below meth c H locs _ (F0 m 85 ls [.int ri2, .int i4])
  refine lv_iload_n hx hb dX2_inHands_85 rfl (lv_v hl (k := 2) rfl rfl) ?_
  refine lv_icmp_ne (tgt := 102) hx hb dX2_inHands_86 (by decide) (fun c9 => ?_) (fun c9 => ?_)
  · have f := f.1 c9
    refine w_iconst hx hb dX2_inHands_102 ?_
    refine lv_iadd hx hb dX2_inHands_103 ?_
    refine w_istore (L' := [(4, vI (i4 + (jI 0))), (7, vR (gR h1 880 ra1)), (0, vR a0), (1, vI i1), (2, vI i2), (3, vI i3), (5, vI i5), (6, vI i6)]) hx hb dX2_inHands_104 hl (by decide) rfl (fun ls hl => ?_)
    have hsz : ls.size = c.maxLocals := hl.1.trans hml.symm
    refine w_iinc (L' := [(6, vI (i6 + (jI 1))), (4, vI (i4 + (jI 0))), (7, vR (gR h1 880 ra1)), (0, vR a0), (1, vI i1), (2, vI i2), (3, vI i3), (5, vI i5)]) hx hb dX2_inHands_106 hl (k := 7) rfl (by decide) rfl (fun ls hl => ?_)
    have hsz : ls.size = c.maxLocals := hl.1.trans hml.symm
    refine lv_goto (tgt := 23) hx hb dX2_inHands_109 (by decide) ?_
    exact (hV _ _ _ _).mp f H locs _ hR hL (lv_p hl [3, 4, 5, 6, 1, 7, 0] rfl)
  · have f := f.2 c9
    refine w_aload (a := gR h1 880 ra1) hx hb dX2_inHands_89 (lv_v hl (k := 0) rfl rfl) ?_
    refine w_call (mi := mX10_rank) (As := [vR (gR h1 880 ra1)]) (rest := [.int i4]) (len := 3) hk hR hL hsz hsB htr hRr (cok_V (i := 16) (C := RX10) (argsL := []) hx hb hown hk hR f.1 (by decide) rfl q2248 q1376 q1377 q1378 kX10_rank.1 kX10_rank.2 rfl dX2_inHands_91) f.2 wX10_rank iX10_rank (by decide) (cat_sum _ (Nat.le_of_ble_eq_true rfl)) rfl (fun v h3 H locs f hR hL => ?_) (fun q h9 H locs hp hR hL => x_out hown hlk hR hL (fun x9 h9 => by rw [htb] at h9; exact absurd h9 List.not_mem_nil) ⟨hp.1, hp.2.1⟩ hp.2.2)
    obtain ⟨ri3, rfl, f⟩ := f
    show Wn p l e R s m args below meth c H locs _ (F0 m 94 ls [.int ri3, .int i4])
    refine lv_iload_n hx hb dX2_inHands_94 rfl (lv_v hl (k := 3) rfl rfl) ?_
    refine lv_icmp_ne (tgt := 102) hx hb dX2_inHands_95 (by decide) (fun c9 => ?_) (fun c9 => ?_)
    · have f := f.1 c9
      refine w_iconst hx hb dX2_inHands_102 ?_
      refine lv_iadd hx hb dX2_inHands_103 ?_
      refine w_istore (L' := [(4, vI (i4 + (jI 0))), (7, vR (gR h1 880 ra1)), (0, vR a0), (1, vI i1), (2, vI i2), (3, vI i3), (5, vI i5), (6, vI i6)]) hx hb dX2_inHands_104 hl (by decide) rfl (fun ls hl => ?_)
      have hsz : ls.size = c.maxLocals := hl.1.trans hml.symm
      refine w_iinc (L' := [(6, vI (i6 + (jI 1))), (4, vI (i4 + (jI 0))), (7, vR (gR h1 880 ra1)), (0, vR a0), (1, vI i1), (2, vI i2), (3, vI i3), (5, vI i5)]) hx hb dX2_inHands_106 hl (k := 7) rfl (by decide) rfl (fun ls hl => ?_)
      have hsz : ls.size = c.maxLocals := hl.1.trans hml.symm
      refine lv_goto (tgt := 23) hx hb dX2_inHands_109 (by decide) ?_
      exact (hV _ _ _ _).mp f H locs _ hR hL (lv_p hl [3, 4, 5, 6, 1, 7, 0] rfl)
    · have f := f.2 c9
      refine w_iconst hx hb dX2_inHands_98 ?_
      refine lv_goto (tgt := 103) hx hb dX2_inHands_99 (by decide) ?_
      refine lv_iadd hx hb dX2_inHands_103 ?_
      refine w_istore (L' := [(4, vI (i4 + (jI 1))), (7, vR (gR h1 880 ra1)), (0, vR a0), (1, vI i1), (2, vI i2), (3, vI i3), (5, vI i5), (6, vI i6)]) hx hb dX2_inHands_104 hl (by decide) rfl (fun ls hl => ?_)
      have hsz : ls.size = c.maxLocals := hl.1.trans hml.symm
      refine w_iinc (L' := [(6, vI (i6 + (jI 1))), (4, vI (i4 + (jI 1))), (7, vR (gR h1 880 ra1)), (0, vR a0), (1, vI i1), (2, vI i2), (3, vI i3), (5, vI i5)]) hx hb dX2_inHands_106 hl (k := 7) rfl (by decide) rfl (fun ls hl => ?_)
      have hsz : ls.size = c.maxLocals := hl.1.trans hml.symm
      refine lv_goto (tgt := 23) hx hb dX2_inHands_109 (by decide) ?_
      exact (hV _ _ _ _).mp f H locs _ hR hL (lv_p hl [3, 4, 5, 6, 1, 7, 0] rfl)
theorem b_X2_init_0 {G : Wd} {l : Launch} {d : Nat} {post : Option Value → VH → Prop} {xp : Nat → VH → Prop} {V : Nat → List (Nat × VT) → List Value → VH → Prop} {XV : Nat → List (Nat × VT) → Nat → VH → Prop} (C : Ctx G l d mX2_init post xp V XV) {a0 a1 : Nat} {h : VH}
    (f : a0 ≠ 0 ∧ ((hz h ≤ wC G) ∧ (hs h + 3 ≤ wS G) ∧ (∀ h1 : VH, h1 = al h 4 0 3 → ((hz h) ≠ 0 ∧ D G l d mJ2_init_2 [vR (hz h), vI (jI 4)] h1 (fun v h2 => v = none ∧ ((kd h2 a0 = 2) ∧ (∀ h3 : VH, h3 = sR h2 41 a0 (hz h) → ((hz h3 ≤ wC G) ∧ (hs h3 + 4 ≤ wS G) ∧ (∀ h4 : VH, h4 = al h3 9 0 4 → ((hz h3) ≠ 0 ∧ D G l d mJ21_init [vR (hz h3)] h4 (fun v h5 => v = none ∧ ((kd h5 a0 = 2) ∧ (∀ h6 : VH, h6 = sR h5 42 a0 (hz h3) → ((¬ (jI 4) < 0) ∧ (((jI 4)).toNatClampNeg ≤ 67108864) ∧ (hz h6 ≤ wC G) ∧ (hs h6 + ((jI 4)).toNatClampNeg ≤ wS G) ∧ (∀ h7 : VH, h7 = al h6 200 ((jI 4)).toNatClampNeg ((jI 4)).toNatClampNeg → ((kd h7 a0 = 2) ∧ (∀ h8 : VH, h8 = sR h7 43 a0 (hz h6) → ((¬ (jI 7) < 0) ∧ (((jI 7)).toNatClampNeg ≤ 67108864) ∧ (hz h8 ≤ wC G) ∧ (hs h8 + ((jI 7)).toNatClampNeg ≤ wS G) ∧ (∀ h9 : VH, h9 = al h8 200 ((jI 7)).toNatClampNeg ((jI 7)).toNatClampNeg → ((kd h9 a0 = 2) ∧ (∀ h10 : VH, h10 = sR h9 44 a0 (hz h8) → ((¬ (jI 4) < 0) ∧ (¬ (jI 6) < 0) ∧ (((jI 4)).toNatClampNeg ≤ 1000000) ∧ (((jI 6)).toNatClampNeg ≤ 1000000) ∧ (hz h10 + ((jI 4)).toNatClampNeg ≤ wC G) ∧ (hs h10 + (((jI 4)).toNatClampNeg + ((jI 4)).toNatClampNeg * ((jI 6)).toNatClampNeg) ≤ wS G) ∧ (∀ h11 : VH, h11 = mal h10 206 200 ((jI 4)).toNatClampNeg ((jI 6)).toNatClampNeg → ((kd h11 a0 = 2) ∧ (∀ h12 : VH, h12 = sR h11 45 a0 (hz h10) → ((¬ (jI 2) < 0) ∧ (((jI 2)).toNatClampNeg ≤ 67108864) ∧ (hz h12 ≤ wC G) ∧ (hs h12 + ((jI 2)).toNatClampNeg ≤ wS G) ∧ (∀ h13 : VH, h13 = al h12 206 ((jI 2)).toNatClampNeg ((jI 2)).toNatClampNeg → ((kd h13 a0 = 2) ∧ (∀ h14 : VH, h14 = sR h13 46 a0 (hz h12) → ((kd h14 a0 = 2) ∧ (∀ h15 : VH, h15 = sR h14 40 a0 a1 → ((kd h15 a0 = 2) ∧ ((kd h15 a1 = 3) ∧ ((isArrR h15 (gR h15 89 a1)) ∧ (vp_in (jI 0) (ln h15 (gR h15 89 a1))) ∧ ((kd h15 (gR h15 ((jI 0)).toNatClampNeg (gR h15 89 a1)) = 200) ∧ (hz h15 ≤ wC G) ∧ (hs h15 + ln h15 (gR h15 ((jI 0)).toNatClampNeg (gR h15 89 a1)) ≤ wS G) ∧ ∀ h16 : VH, h16 = acl h15 (gR h15 ((jI 0)).toNatClampNeg (gR h15 89 a1)) → ((kd h16 (hz h15) = 200 ∨ kd h16 (hz h15) = 300) ∧ ((kd h16 (gR h15 46 a0) = 206) ∧ (vp_in (jI 0) (ln h16 (gR h15 46 a0))) ∧ (kd h16 (hz h15) = 200) ∧ (∀ h17 : VH, h17 = sR h16 ((jI 0)).toNatClampNeg (gR h15 46 a0) (hz h15) → ((kd h17 a0 = 2) ∧ ((kd h17 a1 = 3) ∧ ((isArrR h17 (gR h17 89 a1)) ∧ (vp_in (jI 1) (ln h17 (gR h17 89 a1))) ∧ ((kd h17 (gR h17 ((jI 1)).toNatClampNeg (gR h17 89 a1)) = 200) ∧ (hz h17 ≤ wC G) ∧ (hs h17 + ln h17 (gR h17 ((jI 1)).toNatClampNeg (gR h17 89 a1)) ≤ wS G) ∧ ∀ h18 : VH, h18 = acl h17 (gR h17 ((jI 1)).toNatClampNeg (gR h17 89 a1)) → ((kd h18 (hz h17) = 200 ∨ kd h18 (hz h17) = 300) ∧ ((kd h18 (gR h17 46 a0) = 206) ∧ (vp_in (jI 1) (ln h18 (gR h17 46 a0))) ∧ (kd h18 (hz h17) = 200) ∧ (∀ h19 : VH, h19 = sR h18 ((jI 1)).toNatClampNeg (gR h17 46 a0) (hz h17) → ((kd h19 a1 = 3) ∧ ((¬ (gI h19 82 a1) = 0 → ((kd h19 a0 = 2) ∧ (∀ h20 : VH, h20 = sI h19 52 a0 (jI (-1)) → (post none h20)))) ∧ ((gI h19 82 a1) = 0 → ((kd h19 a0 = 2) ∧ (∀ h21 : VH, h21 = sI h19 52 a0 (jI 0) → (post none h21))))))))))))))))))))))))))))))))))))))))) xp)))))) xp)))) : V 0 [(0, vR a0), (1, vR a1)] [] h := by
  obtain ⟨p, e, R, s, m, args, below, meth, c, Q, ⟨hx, hb, hr, hlk, hml, hown, hk, hRr, htb, hnm, hsB, htr, hQ⟩, hV, hX⟩ := C
  rw [hV]
  intro H locs ls hR hL hl
  have hb : c.code = cX2_init := hb
  have hr : meth.sig.returnType = none := hr
  have hml : c.maxLocals = 2 := hml
  have hown : s.vm.findClass RX2 = some m.cls := hown
  have hl : lv_has ls 2 (lm [(0, vR a0), (1, vR a1)]) := hl
  have hsz : ls.size = c.maxLocals := hl.1.trans hml.symm
  subst hQ
  refine w_aload_n hx hb dX2_init_0 rfl (lv_v hl (k := 0) rfl rfl) ?_
  obtain ⟨f1, f⟩ := f
  refine w_oinit hx hb hown hk f1 hRr q350 q211 q212 hsz dX2_init_1 (Nat.le_of_ble_eq_true rfl) ?_
  refine w_aload_n hx hb dX2_init_4 rfl (lv_v hl (k := 0) rfl rfl) ?_
  obtain ⟨f1, f2, f⟩ := f
  refine w_new hx hb hown hk hR hL hRr.2.2.1 hRr.2.2.2.1 hsB clk_J2 q351 q222 q154 f1 f2 (fun k hk => by match k, hk with | 0, _ => rfl | 1, _ => rfl | 2, _ => rfl | k + 3, hk => exact absurd hk (by omega)) (by decide) (by decide) dX2_init_5 (fun H hR => ?_)
  obtain ⟨h1, eh1⟩ : ∃ z : VH, z = al h 4 0 3 := ⟨_, rfl⟩
  have hR : Rp G h1 H := by rw [eh1]; exact hR
  have f := f h1 eh1
  refine lv_dup hx hb dX2_init_8 (vr_cat _) ?_
  refine w_iconst hx hb dX2_init_9 ?_
  refine w_call (mi := mJ2_init_2) (As := [vR (hz h), vI (jI 4)]) (rest := [vr (hz h), vr a0]) (len := 3) hk hR hL hsz hsB htr hRr (cok_I (argsL := [.int (jI 4)]) hx hb hown hk f.1 rfl q352 q353 q354 kJ2_init_2.1 kJ2_init_2.2 rfl dX2_init_10) f.2 wJ2_init_2 iJ2_init_2 (by decide) (cat_sum _ (Nat.le_of_ble_eq_true rfl)) rfl (fun v h2 H locs f hR hL => ?_) (fun q h9 H locs hp hR hL => x_out hown hlk hR hL (fun x9 h9 => by rw [htb] at h9; exact absurd h9 List.not_mem_nil) ⟨hp.1, hp.2.1⟩ hp.2.2)
  obtain ⟨rfl, f⟩ := f
  show Wn p l e R s m args below meth c H locs _ (F0 m 13 ls [vr (hz h), vr a0])
  obtain ⟨f1, f⟩ := f
  refine w_putF (i := 1) (k := 1) (c1 := cR (h2.1 a0) 41 (hz h)) hx hb hown hk hR hL clk_X2 f1 (by decide) (by decide) q708 (fun _ h9 => h9) rfl hnm rfl (vr_fit rfl _) rfl (pvR clk_X2 (by decide) rfl rfl) dX2_init_13 (fun H locs hR hL => ?_)
  obtain ⟨h3, eh3⟩ : ∃ z : VH, z = sR h2 41 a0 (hz h) := ⟨_, rfl⟩
  have hR : Rp G h3 H := by rw [eh3]; exact hR
  have f := f h3 eh3
  refine w_aload_n hx hb dX2_init_16 rfl (lv_v hl (k := 0) rfl rfl) ?_
  obtain ⟨f1, f2, f⟩ := f
  refine w_new hx hb hown hk hR hL hRr.2.2.1 hRr.2.2.2.1 hsB clk_J21 q677 q678 q174 f1 f2 (fun k hk => by match k, hk with | 0, _ => rfl | 1, _ => rfl | 2, _ => rfl | 3, _ => rfl | k + 4, hk => exact absurd hk (by omega)) (by decide) (by decide) dX2_init_17 (fun H hR => ?_)
  obtain ⟨h4, eh4⟩ : ∃ z : VH, z = al h3 9 0 4 := ⟨_, rfl⟩
  have hR : Rp G h4 H := by rw [eh4]; exact hR
  have f := f h4 eh4
  refine lv_dup hx hb dX2_init_20 (vr_cat _) ?_
  refine w_call (mi := mJ21_init) (As := [vR (hz h3)]) (rest := [vr (hz h3), vr a0]) (len := 3) hk hR hL hsz hsB htr hRr (cok_I (argsL := []) hx hb hown hk f.1 rfl q679 q680 q681 kJ21_init.1 kJ21_init.2 rfl dX2_init_21) f.2 wJ21_init iJ21_init (by decide) (cat_sum _ (Nat.le_of_ble_eq_true rfl)) rfl (fun v h5 H locs f hR hL => ?_) (fun q h9 H locs hp hR hL => x_out hown hlk hR hL (fun x9 h9 => by rw [htb] at h9; exact absurd h9 List.not_mem_nil) ⟨hp.1, hp.2.1⟩ hp.2.2)
  obtain ⟨rfl, f⟩ := f
  show Wn p l e R s m args below meth c H locs _ (F0 m 24 ls [vr (hz h3), vr a0])
  obtain ⟨f1, f⟩ := f
  refine w_putF (i := 1) (k := 2) (c1 := cR (h5.1 a0) 42 (hz h3)) hx hb hown hk hR hL clk_X2 f1 (by decide) (by decide) q711 (fun _ h9 => h9) rfl hnm rfl (vr_fit rfl _) rfl (pvR clk_X2 (by decide) rfl rfl) dX2_init_24 (fun H locs hR hL => ?_)
  obtain ⟨h6, eh6⟩ : ∃ z : VH, z = sR h5 42 a0 (hz h3) := ⟨_, rfl⟩
  have hR : Rp G h6 H := by rw [eh6]; exact hR
  have f := f h6 eh6
  refine w_aload_n hx hb dX2_init_27 rfl (lv_v hl (k := 0) rfl rfl) ?_
  refine w_iconst hx hb dX2_init_28 ?_
  obtain ⟨f1, f2, f3, f4, f⟩ := f
  refine w_newarr (t := 0) (atype := .int) hx hb hk hR hRr.2.2.1 hRr.2.2.2.1 (by decide) rfl q346 f1 f2 f3 f4 dX2_init_29 (fun H hR => ?_)
  obtain ⟨h7, eh7⟩ : ∃ z : VH, z = al h6 200 ((jI 4)).toNatClampNeg ((jI 4)).toNatClampNeg := ⟨_, rfl⟩
  have hR : Rp G h7 H := by rw [eh7]; exact hR
  have f := f h7 eh7
  obtain ⟨f1, f⟩ := f
  refine w_putF (i := 1) (k := 3) (c1 := cR (h7.1 a0) 43 (hz h6)) hx hb hown hk hR hL clk_X2 f1 (by decide) (by decide) q713 (fun _ h9 => h9) rfl hnm rfl (vr_fit rfl _) rfl (pvR clk_X2 (by decide) rfl rfl) dX2_init_31 (fun H locs hR hL => ?_)
  obtain ⟨h8, eh8⟩ : ∃ z : VH, z = sR h7 43 a0 (hz h6) := ⟨_, rfl⟩
  have hR : Rp G h8 H := by rw [eh8]; exact hR
  have f := f h8 eh8
  refine w_aload_n hx hb dX2_init_34 rfl (lv_v hl (k := 0) rfl rfl) ?_
  refine w_bipush hx hb dX2_init_35 (by decide) ?_
  obtain ⟨f1, f2, f3, f4, f⟩ := f
  refine w_newarr (t := 0) (atype := .int) hx hb hk hR hRr.2.2.1 hRr.2.2.2.1 (by decide) rfl q346 f1 f2 f3 f4 dX2_init_37 (fun H hR => ?_)
  obtain ⟨h9, eh9⟩ : ∃ z : VH, z = al h8 200 ((jI 7)).toNatClampNeg ((jI 7)).toNatClampNeg := ⟨_, rfl⟩
  have hR : Rp G h9 H := by rw [eh9]; exact hR
  have f := f h9 eh9
  obtain ⟨f1, f⟩ := f
  refine w_putF (i := 1) (k := 4) (c1 := cR (h9.1 a0) 44 (hz h8)) hx hb hown hk hR hL clk_X2 f1 (by decide) (by decide) q716 (fun _ h9 => h9) rfl hnm rfl (vr_fit rfl _) rfl (pvR clk_X2 (by decide) rfl rfl) dX2_init_39 (fun H locs hR hL => ?_)
  obtain ⟨h10, eh10⟩ : ∃ z : VH, z = sR h9 44 a0 (hz h8) := ⟨_, rfl⟩
  have hR : Rp G h10 H := by rw [eh10]; exact hR
  have f := f h10 eh10
  refine w_aload_n hx hb dX2_init_42 rfl (lv_v hl (k := 0) rfl rfl) ?_
  refine w_iconst hx hb dX2_init_43 ?_
  refine w_bipush hx hb dX2_init_44 (by decide) ?_
  obtain ⟨f1, f2, f3, f4, f5, f6, f⟩ := f
  refine w_multi (tO := 6) (tI := 0) (ty := .int) hx hb hown hk hR hRr.2.2.1 hRr.2.2.2.1 hsB (by decide) (by decide) rfl rfl q698 (hk.aoA q287 args) q346 (by decide) rfl rfl (fun _ _ => rfl) (hk.k.2 0 _ rfl).2 f1 f2 f3 f4 f5 f6 dX2_init_46 (fun H hR => ?_)
  obtain ⟨h11, eh11⟩ : ∃ z : VH, z = mal h10 206 200 ((jI 4)).toNatClampNeg ((jI 6)).toNatClampNeg := ⟨_, rfl⟩
  have hR : Rp G h11 H := by rw [eh11]; exact hR
  have f := f h11 eh11
  obtain ⟨f1, f⟩ := f
  refine w_putF (i := 1) (k := 5) (c1 := cR (h11.1 a0) 45 (hz h10)) hx hb hown hk hR hL clk_X2 f1 (by decide) (by decide) q718 (fun _ h9 => h9) rfl hnm rfl (vr_fit rfl _) rfl (pvR clk_X2 (by decide) rfl rfl) dX2_init_50 (fun H locs hR hL => ?_)
  obtain ⟨h12, eh12⟩ : ∃ z : VH, z = sR h11 45 a0 (hz h10) := ⟨_, rfl⟩
  have hR : Rp G h12 H := by rw [eh12]; exact hR
  have f := f h12 eh12
  refine w_aload_n hx hb dX2_init_53 rfl (lv_v hl (k := 0) rfl rfl) ?_
  refine w_iconst hx hb dX2_init_54 ?_
  obtain ⟨f1, f2, f3, f4, f⟩ := f
  refine w_newqI hx hb hown hk hR hRr.2.2.1 hRr.2.2.2.1 q699 f1 f2 f3 f4 dX2_init_55 (fun H hR => ?_)
  obtain ⟨h13, eh13⟩ : ∃ z : VH, z = al h12 206 ((jI 2)).toNatClampNeg ((jI 2)).toNatClampNeg := ⟨_, rfl⟩
  have hR : Rp G h13 H := by rw [eh13]; exact hR
  have f := f h13 eh13
  obtain ⟨f1, f⟩ := f
  refine w_putF (i := 1) (k := 6) (c1 := cR (h13.1 a0) 46 (hz h12)) hx hb hown hk hR hL clk_X2 f1 (by decide) (by decide) q720 (fun _ h9 => h9) rfl hnm rfl (vr_fit rfl _) rfl (pvR clk_X2 (by decide) rfl rfl) dX2_init_58 (fun H locs hR hL => ?_)
  obtain ⟨h14, eh14⟩ : ∃ z : VH, z = sR h13 46 a0 (hz h12) := ⟨_, rfl⟩
  have hR : Rp G h14 H := by rw [eh14]; exact hR
  have f := f h14 eh14
  refine w_aload_n hx hb dX2_init_61 rfl (lv_v hl (k := 0) rfl rfl) ?_
  refine w_aload_n hx hb dX2_init_62 rfl (lv_v hl (k := 1) rfl rfl) ?_
  obtain ⟨f1, f⟩ := f
  refine w_putF (i := 1) (k := 0) (c1 := cR (h14.1 a0) 40 a1) hx hb hown hk hR hL clk_X2 f1 (by decide) (by decide) q704 (fun _ h9 => h9) rfl hnm rfl (vr_fit rfl _) rfl (pvR clk_X2 (by decide) rfl rfl) dX2_init_63 (fun H locs hR hL => ?_)
  obtain ⟨h15, eh15⟩ : ∃ z : VH, z = sR h14 40 a0 a1 := ⟨_, rfl⟩
  have hR : Rp G h15 H := by rw [eh15]; exact hR
  have f := f h15 eh15
  refine w_aload_n hx hb dX2_init_66 rfl (lv_v hl (k := 0) rfl rfl) ?_
  obtain ⟨f1, f⟩ := f
  refine w_get (i := 1) (k := 6) (v := vr (gR h15 46 a0)) hx hb hown hk hR clk_X2 f1 (by decide) (by decide) q720 (fun _ h9 => h9) rfl dX2_init_67 ?_
  refine w_iconst hx hb dX2_init_70 ?_
  refine w_aload_n hx hb dX2_init_71 rfl (lv_v hl (k := 1) rfl rfl) ?_
  obtain ⟨f1, f⟩ := f
  refine w_getN (i := 2) (k := 9) (v := vr (gR h15 89 a1)) hx hb hown hk hR clk_X3 f1 (by decide) (by decide) q323 (fun _ h9 => h9) rfl dX2_init_72 ?_
  refine w_iconst hx hb dX2_init_75 ?_
  obtain ⟨f1, f2, f⟩ := f
  obtain ⟨t9, ty9, g1, g2, g3, g4⟩ := f1.use
  refine w_aald hx hb hk hR g1 g2 g3 g4 f2 dX2_init_76 ?_
  obtain ⟨f1, f2, f3, f⟩ := f
  refine w_clone (t := 0) (ty := .int) hx hb hsz.symm hown hk hR hRr.2.2.1 hRr.2.2.2.1 (by clear f; omega) (by clear f; omega) (cat_sum _ (Nat.le_of_ble_eq_true rfl)) f1 (by decide) rfl q700 q701 q472 q473 q702 q703 (hk.k.2 0 _ rfl).2 (fun _ _ => rfl) f2 f3 dX2_init_77 (fun H hR => ?_)
  obtain ⟨h16, eh16⟩ : ∃ z : VH, z = acl h15 (gR h15 ((jI 0)).toNatClampNeg (gR h15 89 a1)) := ⟨_, rfl⟩
  have hR : Rp G h16 H := by rw [eh16]; exact hR
  have f := f h16 eh16
  obtain ⟨f1, f⟩ := f
  refine or_k f1 (fun q9 kk => w_castA (t := 0) hx hb hown hk hR q9 (by decide) rfl (hk.k.2 0 _ rfl).2 q699 dX2_init_80 kk) (fun q9 kk => w_castA (t := 100) hx hb hown hk hR q9 (by decide) rfl (hk.k.2 0 _ rfl).2 q699 dX2_init_80 kk) ?_
  obtain ⟨f1, f2, f3, f⟩ := f
  refine w_aastI hx hb hk hR hL f1 f3 f2 dX2_init_83 (fun H locs hR hL => ?_)
  obtain ⟨h17, eh17⟩ : ∃ z : VH, z = sR h16 ((jI 0)).toNatClampNeg (gR h15 46 a0) (hz h15) := ⟨_, rfl⟩
  have hR : Rp G h17 H := by rw [eh17]; exact hR
  have f := f h17 eh17
  refine w_aload_n hx hb dX2_init_84 rfl (lv_v hl (k := 0) rfl rfl) ?_
  obtain ⟨f1, f⟩ := f
  refine w_get (i := 1) (k := 6) (v := vr (gR h17 46 a0)) hx hb hown hk hR clk_X2 f1 (by decide) (by decide) q720 (fun _ h9 => h9) rfl dX2_init_85 ?_
  refine w_iconst hx hb dX2_init_88 ?_
  refine w_aload_n hx hb dX2_init_89 rfl (lv_v hl (k := 1) rfl rfl) ?_
  obtain ⟨f1, f⟩ := f
  refine w_getN (i := 2) (k := 9) (v := vr (gR h17 89 a1)) hx hb hown hk hR clk_X3 f1 (by decide) (by decide) q323 (fun _ h9 => h9) rfl dX2_init_90 ?_
  refine w_iconst hx hb dX2_init_93 ?_
  obtain ⟨f1, f2, f⟩ := f
  obtain ⟨t9, ty9, g1, g2, g3, g4⟩ := f1.use
  refine w_aald hx hb hk hR g1 g2 g3 g4 f2 dX2_init_94 ?_
  obtain ⟨f1, f2, f3, f⟩ := f
  refine w_clone (t := 0) (ty := .int) hx hb hsz.symm hown hk hR hRr.2.2.1 hRr.2.2.2.1 (by clear f; omega) (by clear f; omega) (cat_sum _ (Nat.le_of_ble_eq_true rfl)) f1 (by decide) rfl q700 q701 q472 q473 q702 q703 (hk.k.2 0 _ rfl).2 (fun _ _ => rfl) f2 f3 dX2_init_95 (fun H hR => ?_)
  obtain ⟨h18, eh18⟩ : ∃ z : VH, z = acl h17 (gR h17 ((jI 1)).toNatClampNeg (gR h17 89 a1)) := ⟨_, rfl⟩
  have hR : Rp G h18 H := by rw [eh18]; exact hR
  have f := f h18 eh18
  obtain ⟨f1, f⟩ := f
  refine or_k f1 (fun q9 kk => w_castA (t := 0) hx hb hown hk hR q9 (by decide) rfl (hk.k.2 0 _ rfl).2 q699 dX2_init_98 kk) (fun q9 kk => w_castA (t := 100) hx hb hown hk hR q9 (by decide) rfl (hk.k.2 0 _ rfl).2 q699 dX2_init_98 kk) ?_
  obtain ⟨f1, f2, f3, f⟩ := f
  refine w_aastI hx hb hk hR hL f1 f3 f2 dX2_init_101 (fun H locs hR hL => ?_)
  obtain ⟨h19, eh19⟩ : ∃ z : VH, z = sR h18 ((jI 1)).toNatClampNeg (gR h17 46 a0) (hz h17) := ⟨_, rfl⟩
  have hR : Rp G h19 H := by rw [eh19]; exact hR
  have f := f h19 eh19
  refine w_aload_n hx hb dX2_init_102 rfl (lv_v hl (k := 0) rfl rfl) ?_
  refine w_aload_n hx hb dX2_init_103 rfl (lv_v hl (k := 1) rfl rfl) ?_
  obtain ⟨f1, f⟩ := f
  refine w_getN (i := 2) (k := 2) (v := .int (gI h19 82 a1)) hx hb hown hk hR clk_X3 f1 (by decide) (by decide) q298 (fun _ h9 => h9) rfl dX2_init_104 ?_
  refine lv_if_ne (tgt := 114) hx hb dX2_init_107 (by decide) (fun c9 => ?_) (fun c9 => ?_)
  · have f := f.1 c9
    refine w_iconst hx hb dX2_init_114 ?_
    obtain ⟨f1, f⟩ := f
    refine w_put (i := 1) (k := 12) (c1 := cI (h19.1 a0) 52 (jI (-1))) hx hb hown hk hR hL clk_X2 f1 (by decide) (by decide) q736 (fun _ h9 => h9) rfl ⟨rfl, rfl⟩ rfl (pvI clk_X2 (by decide) rfl rfl) dX2_init_115 (fun H locs hR hL => ?_)
    obtain ⟨h20, eh20⟩ : ∃ z : VH, z = sI h19 52 a0 (jI (-1)) := ⟨_, rfl⟩
    have hR : Rp G h20 H := by rw [eh20]; exact hR
    have f := f h20 eh20
    exact w_vret hx hb hr hlk hR hL dX2_init_118 f
  · have f := f.2 c9
    refine w_iconst hx hb dX2_init_110 ?_
    refine lv_goto (tgt := 115) hx hb dX2_init_111 (by decide) ?_
    obtain ⟨f1, f⟩ := f
    refine w_put (i := 1) (k := 12) (c1 := cI (h19.1 a0) 52 (jI 0)) hx hb hown hk hR hL clk_X2 f1 (by decide) (by decide) q736 (fun _ h9 => h9) rfl ⟨rfl, rfl⟩ rfl (pvI clk_X2 (by decide) rfl rfl) dX2_init_115 (fun H locs hR hL => ?_)
    obtain ⟨h21, eh21⟩ : ∃ z : VH, z = sI h19 52 a0 (jI 0) := ⟨_, rfl⟩
    have hR : Rp G h21 H := by rw [eh21]; exact hR
    have f := f h21 eh21
    exact w_vret hx hb hr hlk hR hL dX2_init_118 f
theorem t_X2_init {G : Wd} {l : Launch} {d : Nat} {post : Option Value → VH → Prop} {xp : Nat → VH → Prop} {a0 a1 : Nat} {h : VH} (hd : 9 ≤ d)
    (f : a0 ≠ 0 ∧ ((hz h ≤ wC G) ∧ (hs h + 3 ≤ wS G) ∧ (∀ h1 : VH, h1 = al h 4 0 3 → ((hz h) ≠ 0 ∧ D G l (d - 1) mJ2_init_2 [vR (hz h), vI (jI 4)] h1 (fun v h2 => v = none ∧ ((kd h2 a0 = 2) ∧ (∀ h3 : VH, h3 = sR h2 41 a0 (hz h) → ((hz h3 ≤ wC G) ∧ (hs h3 + 4 ≤ wS G) ∧ (∀ h4 : VH, h4 = al h3 9 0 4 → ((hz h3) ≠ 0 ∧ D G l (d - 1) mJ21_init [vR (hz h3)] h4 (fun v h5 => v = none ∧ ((kd h5 a0 = 2) ∧ (∀ h6 : VH, h6 = sR h5 42 a0 (hz h3) → ((¬ (jI 4) < 0) ∧ (((jI 4)).toNatClampNeg ≤ 67108864) ∧ (hz h6 ≤ wC G) ∧ (hs h6 + ((jI 4)).toNatClampNeg ≤ wS G) ∧ (∀ h7 : VH, h7 = al h6 200 ((jI 4)).toNatClampNeg ((jI 4)).toNatClampNeg → ((kd h7 a0 = 2) ∧ (∀ h8 : VH, h8 = sR h7 43 a0 (hz h6) → ((¬ (jI 7) < 0) ∧ (((jI 7)).toNatClampNeg ≤ 67108864) ∧ (hz h8 ≤ wC G) ∧ (hs h8 + ((jI 7)).toNatClampNeg ≤ wS G) ∧ (∀ h9 : VH, h9 = al h8 200 ((jI 7)).toNatClampNeg ((jI 7)).toNatClampNeg → ((kd h9 a0 = 2) ∧ (∀ h10 : VH, h10 = sR h9 44 a0 (hz h8) → ((¬ (jI 4) < 0) ∧ (¬ (jI 6) < 0) ∧ (((jI 4)).toNatClampNeg ≤ 1000000) ∧ (((jI 6)).toNatClampNeg ≤ 1000000) ∧ (hz h10 + ((jI 4)).toNatClampNeg ≤ wC G) ∧ (hs h10 + (((jI 4)).toNatClampNeg + ((jI 4)).toNatClampNeg * ((jI 6)).toNatClampNeg) ≤ wS G) ∧ (∀ h11 : VH, h11 = mal h10 206 200 ((jI 4)).toNatClampNeg ((jI 6)).toNatClampNeg → ((kd h11 a0 = 2) ∧ (∀ h12 : VH, h12 = sR h11 45 a0 (hz h10) → ((¬ (jI 2) < 0) ∧ (((jI 2)).toNatClampNeg ≤ 67108864) ∧ (hz h12 ≤ wC G) ∧ (hs h12 + ((jI 2)).toNatClampNeg ≤ wS G) ∧ (∀ h13 : VH, h13 = al h12 206 ((jI 2)).toNatClampNeg ((jI 2)).toNatClampNeg → ((kd h13 a0 = 2) ∧ (∀ h14 : VH, h14 = sR h13 46 a0 (hz h12) → ((kd h14 a0 = 2) ∧ (∀ h15 : VH, h15 = sR h14 40 a0 a1 → ((kd h15 a0 = 2) ∧ ((kd h15 a1 = 3) ∧ ((isArrR h15 (gR h15 89 a1)) ∧ (vp_in (jI 0) (ln h15 (gR h15 89 a1))) ∧ ((kd h15 (gR h15 ((jI 0)).toNatClampNeg (gR h15 89 a1)) = 200) ∧ (hz h15 ≤ wC G) ∧ (hs h15 + ln h15 (gR h15 ((jI 0)).toNatClampNeg (gR h15 89 a1)) ≤ wS G) ∧ ∀ h16 : VH, h16 = acl h15 (gR h15 ((jI 0)).toNatClampNeg (gR h15 89 a1)) → ((kd h16 (hz h15) = 200 ∨ kd h16 (hz h15) = 300) ∧ ((kd h16 (gR h15 46 a0) = 206) ∧ (vp_in (jI 0) (ln h16 (gR h15 46 a0))) ∧ (kd h16 (hz h15) = 200) ∧ (∀ h17 : VH, h17 = sR h16 ((jI 0)).toNatClampNeg (gR h15 46 a0) (hz h15) → ((kd h17 a0 = 2) ∧ ((kd h17 a1 = 3) ∧ ((isArrR h17 (gR h17 89 a1)) ∧ (vp_in (jI 1) (ln h17 (gR h17 89 a1))) ∧ ((kd h17 (gR h17 ((jI 1)).toNatClampNeg (gR h17 89 a1)) = 200) ∧ (hz h17 ≤ wC G) ∧ (hs h17 + ln h17 (gR h17 ((jI 1)).toNatClampNeg (gR h17 89 a1)) ≤ wS G) ∧ ∀ h18 : VH, h18 = acl h17 (gR h17 ((jI 1)).toNatClampNeg (gR h17 89 a1)) → ((kd h18 (hz h17) = 200 ∨ kd h18 (hz h17) = 300) ∧ ((kd h18 (gR h17 46 a0) = 206) ∧ (vp_in (jI 1) (ln h18 (gR h17 46 a0))) ∧ (kd h18 (hz h17) = 200) ∧ (∀ h19 : VH, h19 = sR h18 ((jI 1)).toNatClampNeg (gR h17 46 a0) (hz h17) → ((kd h19 a1 = 3) ∧ ((¬ (gI h19 82 a1) = 0 → ((kd h19 a0 = 2) ∧ (∀ h20 : VH, h20 = sI h19 52 a0 (jI (-1)) → (post none h20)))) ∧ ((gI h19 82 a1) = 0 → ((kd h19 a0 = 2) ∧ (∀ h21 : VH, h21 = sI h19 52 a0 (jI 0) → (post none h21))))))))))))))))))))))))))))))))))))))))) xp)))))) xp)))) : D G l d mX2_init [vR a0, vR a1] h post xp := D_in hd rfl rfl fun V XV C => b_X2_init_0 C f
theorem b_X2_isCritical_0 {G : Wd} {l : Launch} {d : Nat} {post : Option Value → VH → Prop} {xp : Nat → VH → Prop} {V : Nat → List (Nat × VT) → List Value → VH → Prop} {XV : Nat → List (Nat × VT) → Nat → VH → Prop} (C : Ctx G l d mX2_isCritical post xp V XV) {i1 i2 : Int32} {a0 : Nat} {h : VH}
    (f : (kd h a0 = 2) ∧ D G l d mX2_isUseless [vR a0, vI i1, vI i2] h (fun v h1 => ∃ ri1, v = some (.int ri1) ∧ ((¬ ri1 = 0 → (post (some (.int (jI 0))) h1)) ∧ (ri1 = 0 → ((kd h1 a0 = 2) ∧ ((kd h1 (gR h1 40 a0) = 3) ∧ D G l d mX3_copiesOf [vR (gR h1 40 a0), vI i1, vI i2] h1 (fun v h2 => ∃ ri2, v = some (.int ri2) ∧ ((kd h2 a0 = 2) ∧ ((isArrR h2 (gR h2 45 a0)) ∧ (vp_in i1 (ln h2 (gR h2 45 a0))) ∧ ((kd h2 (gR h2 (i1).toNatClampNeg (gR h2 45 a0)) = 200 ∨ kd h2 (gR h2 (i1).toNatClampNeg (gR h2 45 a0)) = 300) ∧ (vp_in i2 (ln h2 (gR h2 (i1).toNatClampNeg (gR h2 45 a0)))) ∧ ((¬ (ri2 - (gI h2 (i2).toNatClampNeg (gR h2 (i1).toNatClampNeg (gR h2 45 a0)))) = (jI 1) → (post (some (.int (jI 0))) h2)) ∧ ((ri2 - (gI h2 (i2).toNatClampNeg (gR h2 (i1).toNatClampNeg (gR h2 45 a0)))) = (jI 1) → (post (some (.int (jI 1))) h2))))))) xp))))) xp) : V 0 [(0, vR a0), (1, vI i1), (2, vI i2)] [] h := by
  obtain ⟨p, e, R, s, m, args, below, meth, c, Q, ⟨hx, hb, hr, hlk, hml, hown, hk, hRr, htb, hnm, hsB, htr, hQ⟩, hV, hX⟩ := C
  rw [hV]
  intro H locs ls hR hL hl
  have hb : c.code = cX2_isCritical := hb
  have hr : meth.sig.returnType = some .boolean := hr
  have hml : c.maxLocals = 3 := hml
  have hown : s.vm.findClass RX2 = some m.cls := hown
  have hl : lv_has ls 3 (lm [(0, vR a0), (1, vI i1), (2, vI i2)]) := hl
  have hsz : ls.size = c.maxLocals := hl.1.trans hml.symm
  subst hQ
  refine w_aload_n hx hb dX2_isCritical_0 rfl (lv_v hl (k := 0) rfl rfl) ?_
  refine lv_iload_n hx hb dX2_isCritical_1 rfl (lv_v hl (k := 1) rfl rfl) ?_
  refine lv_iload_n hx hb dX2_isCritical_2 rfl (lv_v hl (k := 2) rfl rfl) ?_
  refine w_call (mi := mX2_isUseless) (As := [vR a0, vI i1, vI i2]) (rest := []) (len := 3) hk hR hL hsz hsB htr hRr (cok_V (i := 1) (C := RX2) (argsL := [.int i1, .int i2]) hx hb hown hk hR f.1 (by decide) rfl q2414 q2304 q2305 q2306 kX2_isUseless.1 kX2_isUseless.2 rfl dX2_isCritical_3) f.2 wX2_isUseless iX2_isUseless (by decide) (cat_sum _ (Nat.le_of_ble_eq_true rfl)) rfl (fun v h1 H locs f hR hL => ?_) (fun q h9 H locs hp hR hL => x_out hown hlk hR hL (fun x9 h9 => by rw [htb] at h9; exact absurd h9 List.not_mem_nil) ⟨hp.1, hp.2.1⟩ hp.2.2)
  obtain ⟨ri1, rfl, f⟩ := f
  show Wn p l e R s m args below meth c H locs _ (F0 m 6 ls [.int ri1])
  refine lv_if_ne (tgt := 35) hx hb dX2_isCritical_6 (by decide) (fun c9 => ?_) (fun c9 => ?_)
  · have f := f.1 c9
    refine w_iconst hx hb dX2_isCritical_35 ?_
    exact w_zret hx hb hr hlk hR hL dX2_isCritical_36 rfl f
  · have f := f.2 c9
    refine w_aload_n hx hb dX2_isCritical_9 rfl (lv_v hl (k := 0) rfl rfl) ?_
    obtain ⟨f1, f⟩ := f
    refine w_get (i := 1) (k := 0) (v := vr (gR h1 40 a0)) hx hb hown hk hR clk_X2 f1 (by decide) (by decide) q704 (fun _ h9 => h9) rfl dX2_isCritical_10 ?_
    refine lv_iload_n hx hb dX2_isCritical_13 rfl (lv_v hl (k := 1) rfl rfl) ?_
    refine lv_iload_n hx hb dX2_isCritical_14 rfl (lv_v hl (k := 2) rfl rfl) ?_
    refine w_call (mi := mX3_copiesOf) (As := [vR (gR h1 40 a0), vI i1, vI i2]) (rest := []) (len := 3) hk hR hL hsz hsB htr hRr (cok_V (i := 2) (C := RX3) (argsL := [.int i1, .int i2]) hx hb hown hk hR f.1 (by decide) rfl q2249 q2250 q2251 q2252 kX3_copiesOf.1 kX3_copiesOf.2 rfl dX2_isCritical_15) f.2 wX3_copiesOf iX3_copiesOf (by decide) (cat_sum _ (Nat.le_of_ble_eq_true rfl)) rfl (fun v h2 H locs f hR hL => ?_) (fun q h9 H locs hp hR hL => x_out hown hlk hR hL (fun x9 h9 => by rw [htb] at h9; exact absurd h9 List.not_mem_nil) ⟨hp.1, hp.2.1⟩ hp.2.2)
    obtain ⟨ri2, rfl, f⟩ := f
    show Wn p l e R s m args below meth c H locs _ (F0 m 18 ls [.int ri2])
    refine w_aload_n hx hb dX2_isCritical_18 rfl (lv_v hl (k := 0) rfl rfl) ?_
    obtain ⟨f1, f⟩ := f
    refine w_get (i := 1) (k := 5) (v := vr (gR h2 45 a0)) hx hb hown hk hR clk_X2 f1 (by decide) (by decide) q718 (fun _ h9 => h9) rfl dX2_isCritical_19 ?_
    refine lv_iload_n hx hb dX2_isCritical_22 rfl (lv_v hl (k := 1) rfl rfl) ?_
    obtain ⟨f1, f2, f⟩ := f
    obtain ⟨t9, ty9, g1, g2, g3, g4⟩ := f1.use
    refine w_aald hx hb hk hR g1 g2 g3 g4 f2 dX2_isCritical_23 ?_
    refine lv_iload_n hx hb dX2_isCritical_24 rfl (lv_v hl (k := 2) rfl rfl) ?_
    obtain ⟨f1, f2, f⟩ := f
    refine or_k f1 (fun q9 kk => w_iald (t := 0) hx hb hk hR q9 (by decide) rfl f2 dX2_isCritical_25 kk) (fun q9 kk => w_iald (t := 100) hx hb hk hR q9 (by decide) rfl f2 dX2_isCritical_25 kk) ?_
    refine lv_isub hx hb dX2_isCritical_26 ?_
    refine w_iconst hx hb dX2_isCritical_27 ?_
    refine lv_icmp_ne (tgt := 35) hx hb dX2_isCritical_28 (by decide) (fun c9 => ?_) (fun c9 => ?_)
    · have f := f.1 c9
      refine w_iconst hx hb dX2_isCritical_35 ?_
      exact w_zret hx hb hr hlk hR hL dX2_isCritical_36 rfl f
    · have f := f.2 c9
      refine w_iconst hx hb dX2_isCritical_31 ?_
      refine lv_goto (tgt := 36) hx hb dX2_isCritical_32 (by decide) ?_
      exact w_zret hx hb hr hlk hR hL dX2_isCritical_36 rfl f
theorem t_X2_isCritical {G : Wd} {l : Launch} {d : Nat} {post : Option Value → VH → Prop} {xp : Nat → VH → Prop} {i1 i2 : Int32} {a0 : Nat} {h : VH} (hd : 9 ≤ d)
    (f : (kd h a0 = 2) ∧ D G l (d - 1) mX2_isUseless [vR a0, vI i1, vI i2] h (fun v h1 => ∃ ri1, v = some (.int ri1) ∧ ((¬ ri1 = 0 → (post (some (.int (jI 0))) h1)) ∧ (ri1 = 0 → ((kd h1 a0 = 2) ∧ ((kd h1 (gR h1 40 a0) = 3) ∧ D G l (d - 1) mX3_copiesOf [vR (gR h1 40 a0), vI i1, vI i2] h1 (fun v h2 => ∃ ri2, v = some (.int ri2) ∧ ((kd h2 a0 = 2) ∧ ((isArrR h2 (gR h2 45 a0)) ∧ (vp_in i1 (ln h2 (gR h2 45 a0))) ∧ ((kd h2 (gR h2 (i1).toNatClampNeg (gR h2 45 a0)) = 200 ∨ kd h2 (gR h2 (i1).toNatClampNeg (gR h2 45 a0)) = 300) ∧ (vp_in i2 (ln h2 (gR h2 (i1).toNatClampNeg (gR h2 45 a0)))) ∧ ((¬ (ri2 - (gI h2 (i2).toNatClampNeg (gR h2 (i1).toNatClampNeg (gR h2 45 a0)))) = (jI 1) → (post (some (.int (jI 0))) h2)) ∧ ((ri2 - (gI h2 (i2).toNatClampNeg (gR h2 (i1).toNatClampNeg (gR h2 45 a0)))) = (jI 1) → (post (some (.int (jI 1))) h2))))))) xp))))) xp) : D G l d mX2_isCritical [vR a0, vI i1, vI i2] h post xp := D_in hd rfl rfl fun V XV C => b_X2_isCritical_0 C f
theorem b_X2_isGone_0 {G : Wd} {l : Launch} {d : Nat} {post : Option Value → VH → Prop} {xp : Nat → VH → Prop} {V : Nat → List (Nat × VT) → List Value → VH → Prop} {XV : Nat → List (Nat × VT) → Nat → VH → Prop} (C : Ctx G l d mX2_isGone post xp V XV) {i1 i2 : Int32} {a0 : Nat} {h : VH}
    (f : (kd h a0 = 2) ∧ ((isArrR h (gR h 45 a0)) ∧ (vp_in i1 (ln h (gR h 45 a0))) ∧ ((kd h (gR h (i1).toNatClampNeg (gR h 45 a0)) = 200 ∨ kd h (gR h (i1).toNatClampNeg (gR h 45 a0)) = 300) ∧ (vp_in i2 (ln h (gR h (i1).toNatClampNeg (gR h 45 a0)))) ∧ ((kd h a0 = 2) ∧ ((kd h (gR h 40 a0) = 3) ∧ D G l d mX3_copiesOf [vR (gR h 40 a0), vI i1, vI i2] h (fun v h1 => ∃ ri1, v = some (.int ri1) ∧ ((¬ (gI h (i2).toNatClampNeg (gR h (i1).toNatClampNeg (gR h 45 a0))) = ri1 → (post (some (.int (jI 0))) h1)) ∧ ((gI h (i2).toNatClampNeg (gR h (i1).toNatClampNeg (gR h 45 a0))) = ri1 → (post (some (.int (jI 1))) h1)))) xp))))) : V 0 [(0, vR a0), (1, vI i1), (2, vI i2)] [] h := by
  obtain ⟨p, e, R, s, m, args, below, meth, c, Q, ⟨hx, hb, hr, hlk, hml, hown, hk, hRr, htb, hnm, hsB, htr, hQ⟩, hV, hX⟩ := C
  rw [hV]
  intro H locs ls hR hL hl
  have hb : c.code = cX2_isGone := hb
  have hr : meth.sig.returnType = some .boolean := hr
  have hml : c.maxLocals = 3 := hml
  have hown : s.vm.findClass RX2 = some m.cls := hown
  have hl : lv_has ls 3 (lm [(0, vR a0), (1, vI i1), (2, vI i2)]) := hl
  have hsz : ls.size = c.maxLocals := hl.1.trans hml.symm
  subst hQ
  refine w_aload_n hx hb dX2_isGone_0 rfl (lv_v hl (k := 0) rfl rfl) ?_
  obtain ⟨f1, f⟩ := f
  refine w_get (i := 1) (k := 5) (v := vr (gR h 45 a0)) hx hb hown hk hR clk_X2 f1 (by decide) (by decide) q718 (fun _ h9 => h9) rfl dX2_isGone_1 ?_
  refine lv_iload_n hx hb dX2_isGone_4 rfl (lv_v hl (k := 1) rfl rfl) ?_
  obtain ⟨f1, f2, f⟩ := f
  obtain ⟨t9, ty9, g1, g2, g3, g4⟩ := f1.use
  refine w_aald hx hb hk hR g1 g2 g3 g4 f2 dX2_isGone_5 ?_
  refine lv_iload_n hx hb dX2_isGone_6 rfl (lv_v hl (k := 2) rfl rfl) ?_
  obtain ⟨f1, f2, f⟩ := f
  refine or_k f1 (fun q9 kk => w_iald (t := 0) hx hb hk hR q9 (by decide) rfl f2 dX2_isGone_7 kk) (fun q9 kk => w_iald (t := 100) hx hb hk hR q9 (by decide) rfl f2 dX2_isGone_7 kk) ?_
  refine w_aload_n hx hb dX2_isGone_8 rfl (lv_v hl (k := 0) rfl rfl) ?_
  obtain ⟨f1, f⟩ := f
  refine w_get (i := 1) (k := 0) (v := vr (gR h 40 a0)) hx hb hown hk hR clk_X2 f1 (by decide) (by decide) q704 (fun _ h9 => h9) rfl dX2_isGone_9 ?_
  refine lv_iload_n hx hb dX2_isGone_12 rfl (lv_v hl (k := 1) rfl rfl) ?_
  refine lv_iload_n hx hb dX2_isGone_13 rfl (lv_v hl (k := 2) rfl rfl) ?_
  refine w_call (mi := mX3_copiesOf) (As := [vR (gR h 40 a0), vI i1, vI i2]) (rest := [.int (gI h (i2).toNatClampNeg (gR h (i1).toNatClampNeg (gR h 45 a0)))]) (len := 3) hk hR hL hsz hsB htr hRr (cok_V (i := 2) (C := RX3) (argsL := [.int i1, .int i2]) hx hb hown hk hR f.1 (by decide) rfl q2249 q2250 q2251 q2252 kX3_copiesOf.1 kX3_copiesOf.2 rfl dX2_isGone_14) f.2 wX3_copiesOf iX3_copiesOf (by decide) (cat_sum _ (Nat.le_of_ble_eq_true rfl)) rfl (fun v h1 H locs f hR hL => ?_) (fun q h9 H locs hp hR hL => x_out hown hlk hR hL (fun x9 h9 => by rw [htb] at h9; exact absurd h9 List.not_mem_nil) ⟨hp.1, hp.2.1⟩ hp.2.2)
  obtain ⟨ri1, rfl, f⟩ := f
  show Wn p l e R s m args below meth c H locs _ (F0 m 17 ls [.int ri1, .int (gI h (i2).toNatClampNeg (gR h (i1).toNatClampNeg (gR h 45 a0)))])
  refine lv_icmp_ne (tgt := 24) hx hb dX2_isGone_17 (by decide) (fun c9 => ?_) (fun c9 => ?_)
  · have f := f.1 c9
    refine w_iconst hx hb dX2_isGone_24 ?_
    exact w_zret hx hb hr hlk hR hL dX2_isGone_25 rfl f
  · have f := f.2 c9
    refine w_iconst hx hb dX2_isGone_20 ?_
    refine lv_goto (tgt := 25) hx hb dX2_isGone_21 (by decide) ?_
    exact w_zret hx hb hr hlk hR hL dX2_isGone_25 rfl f
theorem t_X2_isGone {G : Wd} {l : Launch} {d : Nat} {post : Option Value → VH → Prop} {xp : Nat → VH → Prop} {i1 i2 : Int32} {a0 : Nat} {h : VH} (hd : 9 ≤ d)
    (f : (kd h a0 = 2) ∧ ((isArrR h (gR h 45 a0)) ∧ (vp_in i1 (ln h (gR h 45 a0))) ∧ ((kd h (gR h (i1).toNatClampNeg (gR h 45 a0)) = 200 ∨ kd h (gR h (i1).toNatClampNeg (gR h 45 a0)) = 300) ∧ (vp_in i2 (ln h (gR h (i1).toNatClampNeg (gR h 45 a0)))) ∧ ((kd h a0 = 2) ∧ ((kd h (gR h 40 a0) = 3) ∧ D G l (d - 1) mX3_copiesOf [vR (gR h 40 a0), vI i1, vI i2] h (fun v h1 => ∃ ri1, v = some (.int ri1) ∧ ((¬ (gI h (i2).toNatClampNeg (gR h (i1).toNatClampNeg (gR h 45 a0))) = ri1 → (post (some (.int (jI 0))) h1)) ∧ ((gI h (i2).toNatClampNeg (gR h (i1).toNatClampNeg (gR h 45 a0))) = ri1 → (post (some (.int (jI 1))) h1)))) xp))))) : D G l d mX2_isGone [vR a0, vI i1, vI i2] h post xp := D_in hd rfl rfl fun V XV C => b_X2_isGone_0 C f
theorem b_X2_isUseless_0 {G : Wd} {l : Launch} {d : Nat} {post : Option Value → VH → Prop} {xp : Nat → VH → Prop} {V : Nat → List (Nat × VT) → List Value → VH → Prop} {XV : Nat → List (Nat × VT) → Nat → VH → Prop} (C : Ctx G l d mX2_isUseless post xp V XV) {i1 i2 : Int32} {a0 : Nat} {h : VH}
    (f : (kd h a0 = 2) ∧ ((kd h (gR h 43 a0) = 200 ∨ kd h (gR h 43 a0) = 300) ∧ (vp_in i1 (ln h (gR h 43 a0))) ∧ ((i2 ≤ (gI h (i1).toNatClampNeg (gR h 43 a0)) → (post (some (.int (jI 1))) h)) ∧ (¬ i2 ≤ (gI h (i1).toNatClampNeg (gR h 43 a0)) → ((kd h a0 = 2) ∧ D G l d mX2_reach [vR a0, vI i1] h (fun v h1 => ∃ ri1, v = some (.int ri1) ∧ ((i2 ≤ ri1 → (post (some (.int (jI 0))) h1)) ∧ (¬ i2 ≤ ri1 → (post (some (.int (jI 1))) h1)))) xp))))) : V 0 [(0, vR a0), (1, vI i1), (2, vI i2)] [] h := by
  obtain ⟨p, e, R, s, m, args, below, meth, c, Q, ⟨hx, hb, hr, hlk, hml, hown, hk, hRr, htb, hnm, hsB, htr, hQ⟩, hV, hX⟩ := C
  rw [hV]
  intro H locs ls hR hL hl
  have hb : c.code = cX2_isUseless := hb
  have hr : meth.sig.returnType = some .boolean := hr
  have hml : c.maxLocals = 3 := hml
  have hown : s.vm.findClass RX2 = some m.cls := hown
  have hl : lv_has ls 3 (lm [(0, vR a0), (1, vI i1), (2, vI i2)]) := hl
  have hsz : ls.size = c.maxLocals := hl.1.trans hml.symm
  subst hQ
  refine lv_iload_n hx hb dX2_isUseless_0 rfl (lv_v hl (k := 2) rfl rfl) ?_
  refine w_aload_n hx hb dX2_isUseless_1 rfl (lv_v hl (k := 0) rfl rfl) ?_
  obtain ⟨f1, f⟩ := f
  refine w_get (i := 1) (k := 3) (v := vr (gR h 43 a0)) hx hb hown hk hR clk_X2 f1 (by decide) (by decide) q713 (fun _ h9 => h9) rfl dX2_isUseless_2 ?_
  refine lv_iload_n hx hb dX2_isUseless_5 rfl (lv_v hl (k := 1) rfl rfl) ?_
  obtain ⟨f1, f2, f⟩ := f
  refine or_k f1 (fun q9 kk => w_iald (t := 0) hx hb hk hR q9 (by decide) rfl f2 dX2_isUseless_6 kk) (fun q9 kk => w_iald (t := 100) hx hb hk hR q9 (by decide) rfl f2 dX2_isUseless_6 kk) ?_
  refine lv_icmp_le (tgt := 19) hx hb dX2_isUseless_7 (by decide) (fun c9 => ?_) (fun c9 => ?_)
  · have f := f.1 c9
    refine w_iconst hx hb dX2_isUseless_19 ?_
    refine lv_goto (tgt := 24) hx hb dX2_isUseless_20 (by decide) ?_
    exact w_zret hx hb hr hlk hR hL dX2_isUseless_24 rfl f
  · have f := f.2 c9
    refine lv_iload_n hx hb dX2_isUseless_10 rfl (lv_v hl (k := 2) rfl rfl) ?_
    refine w_aload_n hx hb dX2_isUseless_11 rfl (lv_v hl (k := 0) rfl rfl) ?_
    refine lv_iload_n hx hb dX2_isUseless_12 rfl (lv_v hl (k := 1) rfl rfl) ?_
    refine w_call (mi := mX2_reach) (As := [vR a0, vI i1]) (rest := [.int i2]) (len := 3) hk hR hL hsz hsB htr hRr (cok_V (i := 1) (C := RX2) (argsL := [.int i1]) hx hb hown hk hR f.1 (by decide) rfl q2307 q2308 q2309 q2310 kX2_reach.1 kX2_reach.2 rfl dX2_isUseless_13) f.2 wX2_reach iX2_reach (by decide) (cat_sum _ (Nat.le_of_ble_eq_true rfl)) rfl (fun v h1 H locs f hR hL => ?_) (fun q h9 H locs hp hR hL => x_out hown hlk hR hL (fun x9 h9 => by rw [htb] at h9; exact absurd h9 List.not_mem_nil) ⟨hp.1, hp.2.1⟩ hp.2.2)
    obtain ⟨ri1, rfl, f⟩ := f
    show Wn p l e R s m args below meth c H locs _ (F0 m 16 ls [.int ri1, .int i2])
    refine lv_icmp_le (tgt := 23) hx hb dX2_isUseless_16 (by decide) (fun c9 => ?_) (fun c9 => ?_)
    · have f := f.1 c9
      refine w_iconst hx hb dX2_isUseless_23 ?_
      exact w_zret hx hb hr hlk hR hL dX2_isUseless_24 rfl f
    · have f := f.2 c9
      refine w_iconst hx hb dX2_isUseless_19 ?_
      refine lv_goto (tgt := 24) hx hb dX2_isUseless_20 (by decide) ?_
      exact w_zret hx hb hr hlk hR hL dX2_isUseless_24 rfl f
theorem t_X2_isUseless {G : Wd} {l : Launch} {d : Nat} {post : Option Value → VH → Prop} {xp : Nat → VH → Prop} {i1 i2 : Int32} {a0 : Nat} {h : VH} (hd : 9 ≤ d)
    (f : (kd h a0 = 2) ∧ ((kd h (gR h 43 a0) = 200 ∨ kd h (gR h 43 a0) = 300) ∧ (vp_in i1 (ln h (gR h 43 a0))) ∧ ((i2 ≤ (gI h (i1).toNatClampNeg (gR h 43 a0)) → (post (some (.int (jI 1))) h)) ∧ (¬ i2 ≤ (gI h (i1).toNatClampNeg (gR h 43 a0)) → ((kd h a0 = 2) ∧ D G l (d - 1) mX2_reach [vR a0, vI i1] h (fun v h1 => ∃ ri1, v = some (.int ri1) ∧ ((i2 ≤ ri1 → (post (some (.int (jI 0))) h1)) ∧ (¬ i2 ≤ ri1 → (post (some (.int (jI 1))) h1)))) xp))))) : D G l d mX2_isUseless [vR a0, vI i1, vI i2] h post xp := D_in hd rfl rfl fun V XV C => b_X2_isUseless_0 C f
theorem b_X2_over_0 {G : Wd} {l : Launch} {d : Nat} {post : Option Value → VH → Prop} {xp : Nat → VH → Prop} {V : Nat → List (Nat × VT) → List Value → VH → Prop} {XV : Nat → List (Nat × VT) → Nat → VH → Prop} (C : Ctx G l d mX2_over post xp V XV) {a0 : Nat} {h : VH}
    (f : (kd h a0 = 2) ∧ ((kd h (gR h 40 a0) = 3) ∧ ((¬ (gI h 82 (gR h 40 a0)) = 0 → ((kd h a0 = 2) ∧ ((¬ (gI h 49 a0) = 0 → ((kd h a0 = 2) ∧ D G l d mX2_areWhole [vR a0] h (fun v h1 => ∃ ri1, v = some (.int ri1) ∧ ((ri1 = 0 → ((kd h1 a0 = 2) ∧ ((¬ (gI h1 52 a0) = 0 → (post (some (.int (jI 0))) h1)) ∧ ((gI h1 52 a0) = 0 → (post (some (.int (jI 3))) h1))))) ∧ (¬ ri1 = 0 → (post (some (.int (jI 2))) h1)))) xp)) ∧ ((gI h 49 a0) = 0 → (post (some (.int (jI 1))) h))))) ∧ ((gI h 82 (gR h 40 a0)) = 0 → (post (some (.int (jI 3))) h))))) : V 0 [(0, vR a0)] [] h := by
  obtain ⟨p, e, R, s, m, args, below, meth, c, Q, ⟨hx, hb, hr, hlk, hml, hown, hk, hRr, htb, hnm, hsB, htr, hQ⟩, hV, hX⟩ := C
  rw [hV]
  intro H locs ls hR hL hl
  have hb : c.code = cX2_over := hb
  have hr : meth.sig.returnType = some .int := hr
  have hml : c.maxLocals = 1 := hml
  have hown : s.vm.findClass RX2 = some m.cls := hown
  have hl : lv_has ls 1 (lm [(0, vR a0)]) := hl
  have hsz : ls.size = c.maxLocals := hl.1.trans hml.symm
  subst hQ
  refine w_aload_n hx hb dX2_over_0 rfl (lv_v hl (k := 0) rfl rfl) ?_
  obtain ⟨f1, f⟩ := f
  refine w_get (i := 1) (k := 0) (v := vr (gR h 40 a0)) hx hb hown hk hR clk_X2 f1 (by decide) (by decide) q704 (fun _ h9 => h9) rfl dX2_over_1 ?_
  obtain ⟨f1, f⟩ := f
  refine w_getN (i := 2) (k := 2) (v := .int (gI h 82 (gR h 40 a0))) hx hb hown hk hR clk_X3 f1 (by decide) (by decide) q298 (fun _ h9 => h9) rfl dX2_over_4 ?_
  refine lv_if_ne (tgt := 12) hx hb dX2_over_7 (by decide) (fun c9 => ?_) (fun c9 => ?_)
  · have f := f.1 c9
    refine w_aload_n hx hb dX2_over_12 rfl (lv_v hl (k := 0) rfl rfl) ?_
    obtain ⟨f1, f⟩ := f
    refine w_get (i := 1) (k := 9) (v := .int (gI h 49 a0)) hx hb hown hk hR clk_X2 f1 (by decide) (by decide) q728 (fun _ h9 => h9) rfl dX2_over_13 ?_
    refine lv_if_ne (tgt := 23) hx hb dX2_over_16 (by decide) (fun c9 => ?_) (fun c9 => ?_)
    · have f := f.1 c9
      refine w_aload_n hx hb dX2_over_23 rfl (lv_v hl (k := 0) rfl rfl) ?_
      refine w_call (mi := mX2_areWhole) (As := [vR a0]) (rest := []) (len := 3) hk hR hL hsz hsB htr hRr (cok_V (i := 1) (C := RX2) (argsL := []) hx hb hown hk hR f.1 (by decide) rfl q2095 q2097 qs37 q2098 kX2_areWhole.1 kX2_areWhole.2 rfl dX2_over_24) f.2 wX2_areWhole iX2_areWhole (by decide) (cat_sum _ (Nat.le_of_ble_eq_true rfl)) rfl (fun v h1 H locs f hR hL => ?_) (fun q h9 H locs hp hR hL => x_out hown hlk hR hL (fun x9 h9 => by rw [htb] at h9; exact absurd h9 List.not_mem_nil) ⟨hp.1, hp.2.1⟩ hp.2.2)
      obtain ⟨ri1, rfl, f⟩ := f
      show Wn p l e R s m args below meth c H locs _ (F0 m 27 ls [.int ri1])
      refine lv_if_eq (tgt := 34) hx hb dX2_over_27 (by decide) (fun c9 => ?_) (fun c9 => ?_)
      · have f := f.1 c9
        refine w_aload_n hx hb dX2_over_34 rfl (lv_v hl (k := 0) rfl rfl) ?_
        obtain ⟨f1, f⟩ := f
        refine w_get (i := 1) (k := 12) (v := .int (gI h1 52 a0)) hx hb hown hk hR clk_X2 f1 (by decide) (by decide) q736 (fun _ h9 => h9) rfl dX2_over_35 ?_
        refine lv_if_ne (tgt := 45) hx hb dX2_over_38 (by decide) (fun c9 => ?_) (fun c9 => ?_)
        · have f := f.1 c9
          refine w_iconst hx hb dX2_over_45 ?_
          exact w_iret hx hb hr hlk hR hL dX2_over_46 f
        · have f := f.2 c9
          refine w_iconst hx hb dX2_over_41 ?_
          refine lv_goto (tgt := 46) hx hb dX2_over_42 (by decide) ?_
          exact w_iret hx hb hr hlk hR hL dX2_over_46 f
      · have f := f.2 c9
        refine w_iconst hx hb dX2_over_30 ?_
        refine lv_goto (tgt := 46) hx hb dX2_over_31 (by decide) ?_
        exact w_iret hx hb hr hlk hR hL dX2_over_46 f
    · have f := f.2 c9
      refine w_iconst hx hb dX2_over_19 ?_
      refine lv_goto (tgt := 46) hx hb dX2_over_20 (by decide) ?_
      exact w_iret hx hb hr hlk hR hL dX2_over_46 f
  · have f := f.2 c9
    refine w_iconst hx hb dX2_over_10 ?_
    exact w_iret hx hb hr hlk hR hL dX2_over_11 f
theorem t_X2_over {G : Wd} {l : Launch} {d : Nat} {post : Option Value → VH → Prop} {xp : Nat → VH → Prop} {a0 : Nat} {h : VH} (hd : 9 ≤ d)
    (f : (kd h a0 = 2) ∧ ((kd h (gR h 40 a0) = 3) ∧ ((¬ (gI h 82 (gR h 40 a0)) = 0 → ((kd h a0 = 2) ∧ ((¬ (gI h 49 a0) = 0 → ((kd h a0 = 2) ∧ D G l (d - 1) mX2_areWhole [vR a0] h (fun v h1 => ∃ ri1, v = some (.int ri1) ∧ ((ri1 = 0 → ((kd h1 a0 = 2) ∧ ((¬ (gI h1 52 a0) = 0 → (post (some (.int (jI 0))) h1)) ∧ ((gI h1 52 a0) = 0 → (post (some (.int (jI 3))) h1))))) ∧ (¬ ri1 = 0 → (post (some (.int (jI 2))) h1)))) xp)) ∧ ((gI h 49 a0) = 0 → (post (some (.int (jI 1))) h))))) ∧ ((gI h 82 (gR h 40 a0)) = 0 → (post (some (.int (jI 3))) h))))) : D G l d mX2_over [vR a0] h post xp := D_in hd rfl rfl fun V XV C => b_X2_over_0 C f
theorem b_X2_own_0 {G : Wd} {l : Launch} {d : Nat} {post : Option Value → VH → Prop} {xp : Nat → VH → Prop} {V : Nat → List (Nat × VT) → List Value → VH → Prop} {XV : Nat → List (Nat × VT) → Nat → VH → Prop} (C : Ctx G l d mX2_own post xp V XV) {a0 : Nat} {h : VH}
    (f : (kd h a0 = 2) ∧ ((kd h a0 = 2) ∧ (((kd h (gR h 41 a0) = 4) ∧ D G l d mJ2_get [vR (gR h 41 a0), vI (gI h 50 a0)] h (fun v h9 => ∃ b9, v = some (vr b9) ∧ V 13 [] [vr b9] h9) xp) ∨ ((kd h (gR h 41 a0) = 9) ∧ D G l d mJ21_get [vR (gR h 41 a0), vI (gI h 50 a0)] h (fun v h9 => ∃ b9, v = some (vr b9) ∧ V 13 [] [vr b9] h9) xp)))) : V 0 [(0, vR a0)] [] h := by
  obtain ⟨p, e, R, s, m, args, below, meth, c, Q, ⟨hx, hb, hr, hlk, hml, hown, hk, hRr, htb, hnm, hsB, htr, hQ⟩, hV, hX⟩ := C
  rw [hV]
  intro H locs ls hR hL hl
  have hb : c.code = cX2_own := hb
  have hr : meth.sig.returnType = some (.object "java/util/LinkedList") := hr
  have hml : c.maxLocals = 1 := hml
  have hown : s.vm.findClass RX2 = some m.cls := hown
  have hl : lv_has ls 1 (lm [(0, vR a0)]) := hl
  have hsz : ls.size = c.maxLocals := hl.1.trans hml.symm
  subst hQ
  refine w_aload_n hx hb dX2_own_0 rfl (lv_v hl (k := 0) rfl rfl) ?_
  obtain ⟨f1, f⟩ := f
  refine w_get (i := 1) (k := 1) (v := vr (gR h 41 a0)) hx hb hown hk hR clk_X2 f1 (by decide) (by decide) q708 (fun _ h9 => h9) rfl dX2_own_1 ?_
  refine w_aload_n hx hb dX2_own_4 rfl (lv_v hl (k := 0) rfl rfl) ?_
  obtain ⟨f1, f⟩ := f
  refine w_get (i := 1) (k := 10) (v := .int (gI h 50 a0)) hx hb hown hk hR clk_X2 f1 (by decide) (by decide) q731 (fun _ h9 => h9) rfl dX2_own_5 ?_
  rcases f with f | f
  · exact w_call (mi := mJ2_get) (As := [vR (gR h 41 a0), vI (gI h 50 a0)]) (rest := []) (len := 5) hk hR hL hsz hsB htr hRr (cok_F (n := 1) (x := ⟨"java/util/List", "get", "(I)Ljava/lang/Object;"⟩) (i := 3) (C := RJ2) (argsL := [.int (gI h 50 a0)]) hx hb hown hk hR f.1 (by decide) rfl ⟨by decide +kernel, by decide +kernel⟩ q1605 q1300 q1299 q1304 q1302 q1134 q1303 q1301 q1305 (by unfold nPar; decide +kernel) rfl dX2_own_8) f.2 wJ2_get iJ2_get (by decide) (cat_sum _ (Nat.le_of_ble_eq_true rfl)) rfl (fun v h9 H locs hp hR hL => by obtain ⟨z9, rfl, f⟩ := hp; exact (hV _ _ _ _).mp f H locs _ hR hL (lv_p hl [] rfl)) (fun q h9 H locs hp hR hL => x_out hown hlk hR hL (fun x9 h9 => by rw [htb] at h9; exact absurd h9 List.not_mem_nil) ⟨hp.1, hp.2.1⟩ hp.2.2)
  exact w_call (mi := mJ21_get) (As := [vR (gR h 41 a0), vI (gI h 50 a0)]) (rest := []) (len := 5) hk hR hL hsz hsB htr hRr (cok_F (n := 1) (x := ⟨"java/util/List", "get", "(I)Ljava/lang/Object;"⟩) (i := 8) (C := RJ21) (argsL := [.int (gI h 50 a0)]) hx hb hown hk hR f.1 (by decide) rfl ⟨by decide +kernel, by decide +kernel⟩ q1605 q1300 q1299 q1317 q1315 q1140 q1316 q1314 q1318 (by unfold nPar; decide +kernel) rfl dX2_own_8) f.2 wJ21_get iJ21_get (by decide) (cat_sum _ (Nat.le_of_ble_eq_true rfl)) rfl (fun v h9 H locs hp hR hL => by obtain ⟨z9, rfl, f⟩ := hp; exact (hV _ _ _ _).mp f H locs _ hR hL (lv_p hl [] rfl)) (fun q h9 H locs hp hR hL => x_out hown hlk hR hL (fun x9 h9 => by rw [htb] at h9; exact absurd h9 List.not_mem_nil) ⟨hp.1, hp.2.1⟩ hp.2.2)
theorem b_X2_own_13 {G : Wd} {l : Launch} {d : Nat} {post : Option Value → VH → Prop} {xp : Nat → VH → Prop} {V : Nat → List (Nat × VT) → List Value → VH → Prop} {XV : Nat → List (Nat × VT) → Nat → VH → Prop} (C : Ctx G l d mX2_own post xp V XV) {b0 : Nat} {h : VH}
    (f : (b0 = 0 ∨ kd h b0 = 9) ∧ (post (some (vr b0)) h)) : V 13 [] [vr b0] h := by
  obtain ⟨p, e, R, s, m, args, below, meth, c, Q, ⟨hx, hb, hr, hlk, hml, hown, hk, hRr, htb, hnm, hsB, htr, hQ⟩, hV, hX⟩ := C
  rw [hV]
  intro H locs ls hR hL hl
  have hb : c.code = cX2_own := hb
  have hr : meth.sig.returnType = some (.object "java/util/LinkedList") := hr
  have hml : c.maxLocals = 1 := hml
  have hown : s.vm.findClass RX2 = some m.cls := hown
  have hl : lv_has ls 1 (lm []) := hl
  have hsz : ls.size = c.maxLocals := hl.1.trans hml.symm
  subst hQ
  obtain ⟨f1, f⟩ := f
  refine w_castS (i := 8) (C := "java/util/LinkedList") hx hb hown hk hR f1 (by decide) rfl q677 dX2_own_13 ?_
  exact w_aret hx hb hr (Or.inl ⟨_, rfl⟩) hlk hR hL dX2_own_16 f
theorem b_X2_pass_0 {G : Wd} {l : Launch} {d : Nat} {post : Option Value → VH → Prop} {xp : Nat → VH → Prop} {V : Nat → List (Nat × VT) → List Value → VH → Prop} {XV : Nat → List (Nat × VT) → Nat → VH → Prop} (C : Ctx G l d mX2_pass post xp V XV) {a0 : Nat} {h : VH}
    (f : (kd h a0 = 2) ∧ D G l d mX2_ends [vR a0, vI (jI 3), vI (jI (-1)), vI (jI (-1)), vI (jI 0)] h (fun v h1 => v = none ∧ (post none h1)) xp) : V 0 [(0, vR a0)] [] h := by
  obtain ⟨p, e, R, s, m, args, below, meth, c, Q, ⟨hx, hb, hr, hlk, hml, hown, hk, hRr, htb, hnm, hsB, htr, hQ⟩, hV, hX⟩ := C
  rw [hV]
  intro H locs ls hR hL hl
  have hb : c.code = cX2_pass := hb
  have hr : meth.sig.returnType = none := hr
  have hml : c.maxLocals = 1 := hml
  have hown : s.vm.findClass RX2 = some m.cls := hown
  have hl : lv_has ls 1 (lm [(0, vR a0)]) := hl
  have hsz : ls.size = c.maxLocals := hl.1.trans hml.symm
  subst hQ
  refine w_aload_n hx hb dX2_pass_0 rfl (lv_v hl (k := 0) rfl rfl) ?_
  refine w_iconst hx hb dX2_pass_1 ?_
  refine w_iconst hx hb dX2_pass_2 ?_
  refine w_iconst hx hb dX2_pass_3 ?_
  refine w_iconst hx hb dX2_pass_4 ?_
  refine w_call (mi := mX2_ends) (As := [vR a0, vI (jI 3), vI (jI (-1)), vI (jI (-1)), vI (jI 0)]) (rest := []) (len := 3) hk hR hL hsz hsB htr hRr (cok_V (i := 1) (C := RX2) (argsL := [.int (jI 3), .int (jI (-1)), .int (jI (-1)), .int (jI 0)]) hx hb hown hk hR f.1 (by decide) rfl q2192 q2194 qs41 q2195 kX2_ends.1 kX2_ends.2 rfl dX2_pass_5) f.2 wX2_ends iX2_ends (by decide) (cat_sum _ (Nat.le_of_ble_eq_true rfl)) rfl (fun v h1 H locs f hR hL => ?_) (fun q h9 H locs hp hR hL => x_out hown hlk hR hL (fun x9 h9 => by rw [htb] at h9; exact absurd h9 List.not_mem_nil) ⟨hp.1, hp.2.1⟩ hp.2.2)
  obtain ⟨rfl, f⟩ := f
  show Wn p l e R s m args below meth c H locs _ (F0 m 8 ls [])
  exact w_vret hx hb hr hlk hR hL dX2_pass_8 f
theorem t_X2_pass {G : Wd} {l : Launch} {d : Nat} {post : Option Value → VH → Prop} {xp : Nat → VH → Prop} {a0 : Nat} {h : VH} (hd : 9 ≤ d)
    (f : (kd h a0 = 2) ∧ D G l (d - 1) mX2_ends [vR a0, vI (jI 3), vI (jI (-1)), vI (jI (-1)), vI (jI 0)] h (fun v h1 => v = none ∧ (post none h1)) xp) : D G l d mX2_pass [vR a0] h post xp := D_in hd rfl rfl fun V XV C => b_X2_pass_0 C f
theorem b_X2_play_0 {G : Wd} {l : Launch} {d : Nat} {post : Option Value → VH → Prop} {xp : Nat → VH → Prop} {V : Nat → List (Nat × VT) → List Value → VH → Prop} {XV : Nat → List (Nat × VT) → Nat → VH → Prop} (C : Ctx G l d mX2_play post xp V XV) {i1 : Int32} {a0 : Nat} {h : VH}
    (f : (kd h a0 = 2) ∧ D G l d mX2_own [vR a0] h (fun v h1 => ∃ ra1, v = some (vr ra1) ∧ ((kd h1 ra1 = 9) ∧ D G l d mJ21_remove [vR ra1, vI i1] h1 (fun v h2 => ∃ ra2, v = some (vr ra2) ∧ ((ra2 = 0 ∨ kd h2 ra2 = 23) ∧ ((kd h2 ra2 = 23) ∧ ((kd h2 (gR h2 880 ra2) = 17) ∧ D G l d mX10_color [vR (gR h2 880 ra2)] h2 (fun v h3 => ∃ ri3, v = some (.int ri3) ∧ ((kd h3 (gR h2 880 ra2) = 17) ∧ D G l d mX10_rank [vR (gR h2 880 ra2)] h3 (fun v h4 => ∃ ri4, v = some (.int ri4) ∧ ((kd h4 a0 = 2) ∧ D G l d mX2_canPlay [vR a0, vI ri3, vI ri4] h4 (fun v h5 => ∃ ri5, v = some (.int ri5) ∧ ((ri5 = 0 → ((kd h5 a0 = 2) ∧ D G l d mX2_goes [vR a0, vR (gR h2 880 ra2)] h5 (fun v h6 => v = none ∧ ((kd h6 a0 = 2) ∧ ((kd h6 a0 = 2) ∧ (∀ h7 : VH, h7 = sI h6 49 a0 ((gI h6 49 a0) - (jI 1)) → ((kd h7 a0 = 2) ∧ ((kd h7 (gR h7 44 a0) = 200 ∨ kd h7 (gR h7 44 a0) = 300) ∧ (vp_in (jI 1) (ln h7 (gR h7 44 a0))) ∧ ((kd h7 (gR h7 44 a0) = 200) ∧ (vp_in (jI 1) (ln h7 (gR h7 44 a0))) ∧ (∀ h8 : VH, h8 = sI h7 ((jI 1)).toNatClampNeg (gR h7 44 a0) ((gI h7 ((jI 1)).toNatClampNeg (gR h7 44 a0)) + (jI 1)) → ((ri5 = 0 → ((kd h8 (gR h2 880 ra2) = 17) ∧ D G l d mX10_told [vR (gR h2 880 ra2)] h8 (fun v h9 => ∃ ri9, v = some (.int ri9) ∧ ((kd h9 a0 = 2) ∧ D G l d mX2_ends [vR a0, vI (jI 4), vI ri9, vI (jI (-1)), vI (jI 1)] h9 (fun v h10 => v = none ∧ (post none h10)) xp)) xp)) ∧ (¬ ri5 = 0 → ((kd h8 (gR h2 880 ra2) = 17) ∧ D G l d mX10_told [vR (gR h2 880 ra2)] h8 (fun v h11 => ∃ ri11, v = some (.int ri11) ∧ ((kd h11 a0 = 2) ∧ D G l d mX2_ends [vR a0, vI (jI 0), vI ri11, vI (jI (-1)), vI (jI 1)] h11 (fun v h12 => v = none ∧ (post none h12)) xp)) xp))))))))))) xp)) ∧ (¬ ri5 = 0 → ((kd h5 a0 = 2) ∧ ((kd h5 (gR h2 880 ra2) = 17) ∧ D G l d mX10_color [vR (gR h2 880 ra2)] h5 (fun v h13 => ∃ ri13, v = some (.int ri13) ∧ ((kd h13 (gR h5 43 a0) = 200 ∨ kd h13 (gR h5 43 a0) = 300) ∧ (vp_in ri13 (ln h13 (gR h5 43 a0))) ∧ ((kd h13 (gR h5 43 a0) = 200) ∧ (vp_in ri13 (ln h13 (gR h5 43 a0))) ∧ (∀ h14 : VH, h14 = sI h13 (ri13).toNatClampNeg (gR h5 43 a0) ((gI h13 (ri13).toNatClampNeg (gR h5 43 a0)) + (jI 1)) → ((kd h14 a0 = 2) ∧ ((kd h14 (gR h14 44 a0) = 200 ∨ kd h14 (gR h14 44 a0) = 300) ∧ (vp_in (jI 0) (ln h14 (gR h14 44 a0))) ∧ ((kd h14 (gR h14 44 a0) = 200) ∧ (vp_in (jI 0) (ln h14 (gR h14 44 a0))) ∧ (∀ h15 : VH, h15 = sI h14 ((jI 0)).toNatClampNeg (gR h14 44 a0) ((gI h14 ((jI 0)).toNatClampNeg (gR h14 44 a0)) + (jI 1)) → ((kd h15 (gR h2 880 ra2) = 17) ∧ D G l d mX10_rank [vR (gR h2 880 ra2)] h15 (fun v h16 => ∃ ri16, v = some (.int ri16) ∧ ((kd h16 a0 = 2) ∧ ((kd h16 (gR h16 40 a0) = 3) ∧ ((¬ ri16 = (gI h16 81 (gR h16 40 a0)) → ((ri5 = 0 → ((kd h16 (gR h2 880 ra2) = 17) ∧ D G l d mX10_told [vR (gR h2 880 ra2)] h16 (fun v h17 => ∃ ri17, v = some (.int ri17) ∧ ((kd h17 a0 = 2) ∧ D G l d mX2_ends [vR a0, vI (jI 4), vI ri17, vI (jI (-1)), vI (jI 1)] h17 (fun v h18 => v = none ∧ (post none h18)) xp)) xp)) ∧ (¬ ri5 = 0 → ((kd h16 (gR h2 880 ra2) = 17) ∧ D G l d mX10_told [vR (gR h2 880 ra2)] h16 (fun v h19 => ∃ ri19, v = some (.int ri19) ∧ ((kd h19 a0 = 2) ∧ D G l d mX2_ends [vR a0, vI (jI 0), vI ri19, vI (jI (-1)), vI (jI 1)] h19 (fun v h20 => v = none ∧ (post none h20)) xp)) xp)))) ∧ (ri16 = (gI h16 81 (gR h16 40 a0)) → ((kd h16 a0 = 2) ∧ D G l d mX2_comesBack [vR a0] h16 (fun v h21 => v = none ∧ ((ri5 = 0 → ((kd h21 (gR h2 880 ra2) = 17) ∧ D G l d mX10_told [vR (gR h2 880 ra2)] h21 (fun v h22 => ∃ ri22, v = some (.int ri22) ∧ ((kd h22 a0 = 2) ∧ D G l d mX2_ends [vR a0, vI (jI 4), vI ri22, vI (jI (-1)), vI (jI 1)] h22 (fun v h23 => v = none ∧ (post none h23)) xp)) xp)) ∧ (¬ ri5 = 0 → ((kd h21 (gR h2 880 ra2) = 17) ∧ D G l d mX10_told [vR (gR h2 880 ra2)] h21 (fun v h24 => ∃ ri24, v = some (.int ri24) ∧ ((kd h24 a0 = 2) ∧ D G l d mX2_ends [vR a0, vI (jI 0), vI ri24, vI (jI (-1)), vI (jI 1)] h24 (fun v h25 => v = none ∧ (post none h25)) xp)) xp)))) xp)))))) xp))))))))) xp))))) xp)) xp)) xp)))) xp)) xp) : V 0 [(0, vR a0), (1, vI i1)] [] h := by
  obtain ⟨p, e, R, s, m, args, below, meth, c, Q, ⟨hx, hb, hr, hlk, hml, hown, hk, hRr, htb, hnm, hsB, htr, hQ⟩, hV, hX⟩ := C
  rw [hV]
  intro H locs ls hR hL hl
  have hb : c.code = cX2_play := hb
  have hr : meth.sig.returnType = none := hr
  have hml : c.maxLocals = 4 := hml
  have hown : s.vm.findClass RX2 = some m.cls := hown
  have hl : lv_has ls 4 (lm [(0, vR a0), (1, vI i1)]) := hl
  have hsz : ls.size = c.maxLocals := hl.1.trans hml.symm
  subst hQ
  refine w_aload_n hx hb dX2_play_0 rfl (lv_v hl (k := 0) rfl rfl) ?_
  refine w_call (mi := mX2_own) (As := [vR a0]) (rest := []) (len := 3) hk hR hL hsz hsB htr hRr (cok_V (i := 1) (C := RX2) (argsL := []) hx hb hown hk hR f.1 (by decide) rfl q2392 q2117 q2118 q2119 kX2_own.1 kX2_own.2 rfl dX2_play_1) f.2 wX2_own iX2_own (by decide) (cat_sum _ (Nat.le_of_ble_eq_true rfl)) rfl (fun v h1 H locs f hR hL => ?_) (fun q h9 H locs hp hR hL => x_out hown hlk hR hL (fun x9 h9 => by rw [htb] at h9; exact absurd h9 List.not_mem_nil) ⟨hp.1, hp.2.1⟩ hp.2.2)
  obtain ⟨ra1, rfl, f⟩ := f
  show Wn p l e R s m args below meth c H locs _ (F0 m 4 ls [vr ra1])
  refine lv_iload_n hx hb dX2_play_4 rfl (lv_v hl (k := 1) rfl rfl) ?_
  refine w_call (mi := mJ21_remove) (As := [vR ra1, vI i1]) (rest := []) (len := 3) hk hR hL hsz hsB htr hRr (cok_V (i := 8) (C := RJ21) (argsL := [.int i1]) hx hb hown hk hR f.1 (by decide) rfl q2393 q2394 q2395 q2396 kJ21_remove.1 kJ21_remove.2 rfl dX2_play_5) f.2 wJ21_remove iJ21_remove (by decide) (cat_sum _ (Nat.le_of_ble_eq_true rfl)) rfl (fun v h2 H locs f hR hL => ?_) (fun q h9 H locs hp hR hL => x_out hown hlk hR hL (fun x9 h9 => by rw [htb] at h9; exact absurd h9 List.not_mem_nil) ⟨hp.1, hp.2.1⟩ hp.2.2)
  obtain ⟨ra2, rfl, f⟩ := f
  show Wn p l e R s m args below meth c H locs _ (F0 m 8 ls [vr ra2])
  obtain ⟨f1, f⟩ := f
  refine w_castS (i := 22) (C := "HintTeam$Held") hx hb hown hk hR f1 (by decide) rfl q1608 dX2_play_8 ?_
  obtain ⟨f1, f⟩ := f
  refine w_getN (i := 22) (k := 0) (v := vr (gR h2 880 ra2)) hx hb hown hk hR clk_X12 f1 (by decide) (by decide) q2045 (fun _ h9 => h9) rfl dX2_play_11 ?_
  refine w_astore_n' (L' := [(2, vR (gR h2 880 ra2)), (0, vR a0), (1, vI i1)]) hx hb dX2_play_14 rfl hl (by decide) rfl (fun ls hl => ?_)
  have hsz : ls.size = c.maxLocals := hl.1.trans hml.symm
  refine w_aload_n hx hb dX2_play_15 rfl (lv_v hl (k := 1) rfl rfl) ?_
  refine w_aload_n (a := gR h2 880 ra2) hx hb dX2_play_16 rfl (lv_v hl (k := 0) rfl rfl) ?_
  refine w_call (mi := mX10_color) (As := [vR (gR h2 880 ra2)]) (rest := [vr a0]) (len := 3) hk hR hL hsz hsB htr hRr (cok_V (i := 16) (C := RX10) (argsL := []) hx hb hown hk hR f.1 (by decide) rfl q2247 q1372 q1373 q1374 kX10_color.1 kX10_color.2 rfl dX2_play_17) f.2 wX10_color iX10_color (by decide) (cat_sum _ (Nat.le_of_ble_eq_true rfl)) rfl (fun v h3 H locs f hR hL => ?_) (fun q h9 H locs hp hR hL => x_out hown hlk hR hL (fun x9 h9 => by rw [htb] at h9; exact absurd h9 List.not_mem_nil) ⟨hp.1, hp.2.1⟩ hp.2.2)
  obtain ⟨ri3, rfl, f⟩ := f
  show Wn p l e R s m args below meth c H locs _ (F0 m 20 ls [.int ri3, vr a0])
  refine w_aload_n (a := gR h2 880 ra2) hx hb dX2_play_20 rfl (lv_v hl (k := 0) rfl rfl) ?_
  refine w_call (mi := mX10_rank) (As := [vR (gR h2 880 ra2)]) (rest := [.int ri3, vr a0]) (len := 3) hk hR hL hsz hsB htr hRr (cok_V (i := 16) (C := RX10) (argsL := []) hx hb hown hk hR f.1 (by decide) rfl q2248 q1376 q1377 q1378 kX10_rank.1 kX10_rank.2 rfl dX2_play_21) f.2 wX10_rank iX10_rank (by decide) (cat_sum _ (Nat.le_of_ble_eq_true rfl)) rfl (fun v h4 H locs f hR hL => ?_) (fun q h9 H locs hp hR hL => x_out hown hlk hR hL (fun x9 h9 => by rw [htb] at h9; exact absurd h9 List.not_mem_nil) ⟨hp.1, hp.2.1⟩ hp.2.2)
  obtain ⟨ri4, rfl, f⟩ := f
  show Wn p l e R s m args below meth c H locs _ (F0 m 24 ls [.int ri4, .int ri3, vr a0])
  refine w_call (mi := mX2_canPlay) (As := [vR a0, vI ri3, vI ri4]) (rest := []) (len := 3) hk hR hL hsz hsB htr hRr (cok_V (i := 1) (C := RX2) (argsL := [.int ri3, .int ri4]) hx hb hown hk hR f.1 (by decide) rfl q2401 q2300 q2301 q2302 kX2_canPlay.1 kX2_canPlay.2 rfl dX2_play_24) f.2 wX2_canPlay iX2_canPlay (by decide) (cat_sum _ (Nat.le_of_ble_eq_true rfl)) rfl (fun v h5 H locs f hR hL => ?_) (fun q h9 H locs hp hR hL => x_out hown hlk hR hL (fun x9 h9 => by rw [htb] at h9; exact absurd h9 List.not_mem_nil) ⟨hp.1, hp.2.1⟩ hp.2.2)
  obtain ⟨ri5, rfl, f⟩ := f
  show Wn p l e R s m args below meth c H locs _ (F0 m 27 ls [.int ri5])
  refine w_istore_n (L' := [(3, vI ri5), (2, vR (gR h2 880 ra2)), (0, vR a0), (1, vI i1)]) hx hb dX2_play_27 rfl hl (by decide) rfl (fun ls hl => ?_)
  have hsz : ls.size = c.maxLocals := hl.1.trans hml.symm
  refine lv_iload_n hx hb dX2_play_28 rfl (lv_v hl (k := 0) rfl rfl) ?_
  refine lv_if_eq (tgt := 76) hx hb dX2_play_29 (by decide) (fun c9 => ?_) (fun c9 => ?_)
  · have f := f.1 c9
    refine w_aload_n hx hb dX2_play_76 rfl (lv_v hl (k := 2) rfl rfl) ?_
    refine w_aload_n (a := gR h2 880 ra2) hx hb dX2_play_77 rfl (lv_v hl (k := 1) rfl rfl) ?_
    refine w_call (mi := mX2_goes) (As := [vR a0, vR (gR h2 880 ra2)]) (rest := []) (len := 3) hk hR hL hsz hsB htr hRr (cok_V (i := 1) (C := RX2) (argsL := [vr (gR h2 880 ra2)]) hx hb hown hk hR f.1 (by decide) rfl q2406 q2408 qs57 q2409 kX2_goes.1 kX2_goes.2 rfl dX2_play_78) f.2 wX2_goes iX2_goes (by decide) (cat_sum _ (Nat.le_of_ble_eq_true rfl)) rfl (fun v h6 H locs f hR hL => ?_) (fun q h9 H locs hp hR hL => x_out hown hlk hR hL (fun x9 h9 => by rw [htb] at h9; exact absurd h9 List.not_mem_nil) ⟨hp.1, hp.2.1⟩ hp.2.2)
    obtain ⟨rfl, f⟩ := f
    show Wn p l e R s m args below meth c H locs _ (F0 m 81 ls [])
    refine w_aload_n hx hb dX2_play_81 rfl (lv_v hl (k := 2) rfl rfl) ?_
    refine lv_dup hx hb dX2_play_82 (vr_cat _) ?_
    obtain ⟨f1, f⟩ := f
    refine w_get (i := 1) (k := 9) (v := .int (gI h6 49 a0)) hx hb hown hk hR clk_X2 f1 (by decide) (by decide) q728 (fun _ h9 => h9) rfl dX2_play_83 ?_
    refine w_iconst hx hb dX2_play_86 ?_
    refine lv_isub hx hb dX2_play_87 ?_
    obtain ⟨f1, f⟩ := f
    refine w_put (i := 1) (k := 9) (c1 := cI (h6.1 a0) 49 ((gI h6 49 a0) - (jI 1))) hx hb hown hk hR hL clk_X2 f1 (by decide) (by decide) q728 (fun _ h9 => h9) rfl ⟨rfl, rfl⟩ rfl (pvI clk_X2 (by decide) rfl rfl) dX2_play_88 (fun H locs hR hL => ?_)
    obtain ⟨h7, eh7⟩ : ∃ z : VH, z = sI h6 49 a0 ((gI h6 49 a0) - (jI 1)) := ⟨_, rfl⟩
    have hR : Rp G h7 H := by rw [eh7]; exact hR
    have f := f h7 eh7
    refine w_aload_n hx hb dX2_play_91 rfl (lv_v hl (k := 2) rfl rfl) ?_
    obtain ⟨f1, f⟩ := f
    refine w_get (i := 1) (k := 4) (v := vr (gR h7 44 a0)) hx hb hown hk hR clk_X2 f1 (by decide) (by decide) q716 (fun _ h9 => h9) rfl dX2_play_92 ?_
    refine w_iconst hx hb dX2_play_95 ?_
    refine lv_dup2_11 hx hb dX2_play_96 rfl (vr_cat _) ?_
    obtain ⟨f1, f2, f⟩ := f
    refine or_k f1 (fun q9 kk => w_iald (t := 0) hx hb hk hR q9 (by decide) rfl f2 dX2_play_97 kk) (fun q9 kk => w_iald (t := 100) hx hb hk hR q9 (by decide) rfl f2 dX2_play_97 kk) ?_
    refine w_iconst hx hb dX2_play_98 ?_
    refine lv_iadd hx hb dX2_play_99 ?_
    obtain ⟨f1, f2, f⟩ := f
    refine w_iast hx hb hk hR hL f1 f2 dX2_play_100 (fun H locs hR hL => ?_)
    obtain ⟨h8, eh8⟩ : ∃ z : VH, z = sI h7 ((jI 1)).toNatClampNeg (gR h7 44 a0) ((gI h7 ((jI 1)).toNatClampNeg (gR h7 44 a0)) + (jI 1)) := ⟨_, rfl⟩
    have hR : Rp G h8 H := by rw [eh8]; exact hR
    have f := f h8 eh8
    refine w_aload_n hx hb dX2_play_101 rfl (lv_v hl (k := 2) rfl rfl) ?_
    refine lv_iload_n hx hb dX2_play_102 rfl (lv_v hl (k := 0) rfl rfl) ?_
    refine lv_if_eq (tgt := 110) hx hb dX2_play_103 (by decide) (fun c9 => ?_) (fun c9 => ?_)
    · have f := f.1 c9
      refine w_iconst hx hb dX2_play_110 ?_
      refine w_aload_n (a := gR h2 880 ra2) hx hb dX2_play_111 rfl (lv_v hl (k := 1) rfl rfl) ?_
      refine w_call (mi := mX10_told) (As := [vR (gR h2 880 ra2)]) (rest := [.int (jI 4), vr a0]) (len := 3) hk hR hL hsz hsB htr hRr (cok_V (i := 16) (C := RX10) (argsL := []) hx hb hown hk hR f.1 (by decide) rfl q2415 q1704 q1705 q1706 kX10_told.1 kX10_told.2 rfl dX2_play_112) f.2 wX10_told iX10_told (by decide) (cat_sum _ (Nat.le_of_ble_eq_true rfl)) rfl (fun v h9 H locs f hR hL => ?_) (fun q h9 H locs hp hR hL => x_out hown hlk hR hL (fun x9 h9 => by rw [htb] at h9; exact absurd h9 List.not_mem_nil) ⟨hp.1, hp.2.1⟩ hp.2.2)
      obtain ⟨ri9, rfl, f⟩ := f
      show Wn p l e R s m args below meth c H locs _ (F0 m 115 ls [.int ri9, .int (jI 4), vr a0])
      refine w_iconst hx hb dX2_play_115 ?_
      refine w_iconst hx hb dX2_play_116 ?_
      refine w_call (mi := mX2_ends) (As := [vR a0, vI (jI 4), vI ri9, vI (jI (-1)), vI (jI 1)]) (rest := []) (len := 3) hk hR hL hsz hsB htr hRr (cok_V (i := 1) (C := RX2) (argsL := [.int (jI 4), .int ri9, .int (jI (-1)), .int (jI 1)]) hx hb hown hk hR f.1 (by decide) rfl q2192 q2194 qs41 q2195 kX2_ends.1 kX2_ends.2 rfl dX2_play_117) f.2 wX2_ends iX2_ends (by decide) (cat_sum _ (Nat.le_of_ble_eq_true rfl)) rfl (fun v h10 H locs f hR hL => ?_) (fun q h9 H locs hp hR hL => x_out hown hlk hR hL (fun x9 h9 => by rw [htb] at h9; exact absurd h9 List.not_mem_nil) ⟨hp.1, hp.2.1⟩ hp.2.2)
      obtain ⟨rfl, f⟩ := f
      show Wn p l e R s m args below meth c H locs _ (F0 m 120 ls [])
      exact w_vret hx hb hr hlk hR hL dX2_play_120 f
    · have f := f.2 c9
      refine w_iconst hx hb dX2_play_106 ?_
      refine lv_goto (tgt := 111) hx hb dX2_play_107 (by decide) ?_
      refine w_aload_n (a := gR h2 880 ra2) hx hb dX2_play_111 rfl (lv_v hl (k := 1) rfl rfl) ?_
      refine w_call (mi := mX10_told) (As := [vR (gR h2 880 ra2)]) (rest := [.int (jI 0), vr a0]) (len := 3) hk hR hL hsz hsB htr hRr (cok_V (i := 16) (C := RX10) (argsL := []) hx hb hown hk hR f.1 (by decide) rfl q2415 q1704 q1705 q1706 kX10_told.1 kX10_told.2 rfl dX2_play_112) f.2 wX10_told iX10_told (by decide) (cat_sum _ (Nat.le_of_ble_eq_true rfl)) rfl (fun v h11 H locs f hR hL => ?_) (fun q h9 H locs hp hR hL => x_out hown hlk hR hL (fun x9 h9 => by rw [htb] at h9; exact absurd h9 List.not_mem_nil) ⟨hp.1, hp.2.1⟩ hp.2.2)
      obtain ⟨ri11, rfl, f⟩ := f
      show Wn p l e R s m args below meth c H locs _ (F0 m 115 ls [.int ri11, .int (jI 0), vr a0])
      refine w_iconst hx hb dX2_play_115 ?_
      refine w_iconst hx hb dX2_play_116 ?_
      refine w_call (mi := mX2_ends) (As := [vR a0, vI (jI 0), vI ri11, vI (jI (-1)), vI (jI 1)]) (rest := []) (len := 3) hk hR hL hsz hsB htr hRr (cok_V (i := 1) (C := RX2) (argsL := [.int (jI 0), .int ri11, .int (jI (-1)), .int (jI 1)]) hx hb hown hk hR f.1 (by decide) rfl q2192 q2194 qs41 q2195 kX2_ends.1 kX2_ends.2 rfl dX2_play_117) f.2 wX2_ends iX2_ends (by decide) (cat_sum _ (Nat.le_of_ble_eq_true rfl)) rfl (fun v h12 H locs f hR hL => ?_) (fun q h9 H locs hp hR hL => x_out hown hlk hR hL (fun x9 h9 => by rw [htb] at h9; exact absurd h9 List.not_mem_nil) ⟨hp.1, hp.2.1⟩ hp.2.2)
      obtain ⟨rfl, f⟩ := f
      show Wn p l e R s m args below meth c H locs _ (F0 m 120 ls [])
      exact w_vret hx hb hr hlk hR hL dX2_play_120 f
  · have f := f.2 c9
    refine w_aload_n hx hb dX2_play_32 rfl (lv_v hl (k := 2) rfl rfl) ?_
    obtain ⟨f1, f⟩ := f
    refine w_get (i := 1) (k := 3) (v := vr (gR h5 43 a0)) hx hb hown hk hR clk_X2 f1 (by decide) (by decide) q713 (fun _ h9 => h9) rfl dX2_play_33 ?_
    refine w_aload_n (a := gR h2 880 ra2) hx hb dX2_play_36 rfl (lv_v hl (k := 1) rfl rfl) ?_
    refine w_call (mi := mX10_color) (As := [vR (gR h2 880 ra2)]) (rest := [vr (gR h5 43 a0)]) (len := 3) hk hR hL hsz hsB htr hRr (cok_V (i := 16) (C := RX10) (argsL := []) hx hb hown hk hR f.1 (by decide) rfl q2247 q1372 q1373 q1374 kX10_color.1 kX10_color.2 rfl dX2_play_37) f.2 wX10_color iX10_color (by decide) (cat_sum _ (Nat.le_of_ble_eq_true rfl)) rfl (fun v h13 H locs f hR hL => ?_) (fun q h9 H locs hp hR hL => x_out hown hlk hR hL (fun x9 h9 => by rw [htb] at h9; exact absurd h9 List.not_mem_nil) ⟨hp.1, hp.2.1⟩ hp.2.2)
    obtain ⟨ri13, rfl, f⟩ := f
    show Wn p l e R s m args below meth c H locs _ (F0 m 40 ls [.int ri13, vr (gR h5 43 a0)])
    refine lv_dup2_11 hx hb dX2_play_40 rfl (vr_cat _) ?_
    obtain ⟨f1, f2, f⟩ := f
    refine or_k f1 (fun q9 kk => w_iald (t := 0) hx hb hk hR q9 (by decide) rfl f2 dX2_play_41 kk) (fun q9 kk => w_iald (t := 100) hx hb hk hR q9 (by decide) rfl f2 dX2_play_41 kk) ?_
    refine w_iconst hx hb dX2_play_42 ?_
    refine lv_iadd hx hb dX2_play_43 ?_
    obtain ⟨f1, f2, f⟩ := f
    refine w_iast hx hb hk hR hL f1 f2 dX2_play_44 (fun H locs hR hL => ?_)
    obtain ⟨h14, eh14⟩ : ∃ z : VH, z = sI h13 (ri13).toNatClampNeg (gR h5 43 a0) ((gI h13 (ri13).toNatClampNeg (gR h5 43 a0)) + (jI 1)) := ⟨_, rfl⟩
    have hR : Rp G h14 H := by rw [eh14]; exact hR
    have f := f h14 eh14
    refine w_aload_n hx hb dX2_play_45 rfl (lv_v hl (k := 2) rfl rfl) ?_
    obtain ⟨f1, f⟩ := f
    refine w_get (i := 1) (k := 4) (v := vr (gR h14 44 a0)) hx hb hown hk hR clk_X2 f1 (by decide) (by decide) q716 (fun _ h9 => h9) rfl dX2_play_46 ?_
    refine w_iconst hx hb dX2_play_49 ?_
    refine lv_dup2_11 hx hb dX2_play_50 rfl (vr_cat _) ?_
    obtain ⟨f1, f2, f⟩ := f
    refine or_k f1 (fun q9 kk => w_iald (t := 0) hx hb hk hR q9 (by decide) rfl f2 dX2_play_51 kk) (fun q9 kk => w_iald (t := 100) hx hb hk hR q9 (by decide) rfl f2 dX2_play_51 kk) ?_
    refine w_iconst hx hb dX2_play_52 ?_
    refine lv_iadd hx hb dX2_play_53 ?_
    obtain ⟨f1, f2, f⟩ := f
    refine w_iast hx hb hk hR hL f1 f2 dX2_play_54 (fun H locs hR hL => ?_)
    obtain ⟨h15, eh15⟩ : ∃ z : VH, z = sI h14 ((jI 0)).toNatClampNeg (gR h14 44 a0) ((gI h14 ((jI 0)).toNatClampNeg (gR h14 44 a0)) + (jI 1)) := ⟨_, rfl⟩
    have hR : Rp G h15 H := by rw [eh15]; exact hR
    have f := f h15 eh15
    refine w_aload_n (a := gR h2 880 ra2) hx hb dX2_play_55 rfl (lv_v hl (k := 1) rfl rfl) ?_
    refine w_call (mi := mX10_rank) (As := [vR (gR h2 880 ra2)]) (rest := []) (len := 3) hk hR hL hsz hsB htr hRr (cok_V (i := 16) (C := RX10) (argsL := []) hx hb hown hk hR f.1 (by decide) rfl q2248 q1376 q1377 q1378 kX10_rank.1 kX10_rank.2 rfl dX2_play_56) f.2 wX10_rank iX10_rank (by decide) (cat_sum _ (Nat.le_of_ble_eq_true rfl)) rfl (fun v h16 H locs f hR hL => ?_) (fun q h9 H locs hp hR hL => x_out hown hlk hR hL (fun x9 h9 => by rw [htb] at h9; exact absurd h9 List.not_mem_nil) ⟨hp.1, hp.2.1⟩ hp.2.2)
    obtain ⟨ri16, rfl, f⟩ := f
    show Wn p l e R s m args below meth c H locs _ (F0 m 59 ls [.int ri16])
    refine w_aload_n hx hb dX2_play_59 rfl (lv_v hl (k := 2) rfl rfl) ?_
    obtain ⟨f1, f⟩ := f
    refine w_get (i := 1) (k := 0) (v := vr (gR h16 40 a0)) hx hb hown hk hR clk_X2 f1 (by decide) (by decide) q704 (fun _ h9 => h9) rfl dX2_play_60 ?_
    obtain ⟨f1, f⟩ := f
    refine w_getN (i := 2) (k := 1) (v := .int (gI h16 81 (gR h16 40 a0))) hx hb hown hk hR clk_X3 f1 (by decide) (by decide) q293 (fun _ h9 => h9) rfl dX2_play_63 ?_
    refine lv_icmp_ne (tgt := 101) hx hb dX2_play_66 (by decide) (fun c9 => ?_) (fun c9 => ?_)
    · have f := f.1 c9
      refine w_aload_n hx hb dX2_play_101 rfl (lv_v hl (k := 2) rfl rfl) ?_
      refine lv_iload_n hx hb dX2_play_102 rfl (lv_v hl (k := 0) rfl rfl) ?_
      refine lv_if_eq (tgt := 110) hx hb dX2_play_103 (by decide) (fun c9 => ?_) (fun c9 => ?_)
      · have f := f.1 c9
        refine w_iconst hx hb dX2_play_110 ?_
        refine w_aload_n (a := gR h2 880 ra2) hx hb dX2_play_111 rfl (lv_v hl (k := 1) rfl rfl) ?_
        refine w_call (mi := mX10_told) (As := [vR (gR h2 880 ra2)]) (rest := [.int (jI 4), vr a0]) (len := 3) hk hR hL hsz hsB htr hRr (cok_V (i := 16) (C := RX10) (argsL := []) hx hb hown hk hR f.1 (by decide) rfl q2415 q1704 q1705 q1706 kX10_told.1 kX10_told.2 rfl dX2_play_112) f.2 wX10_told iX10_told (by decide) (cat_sum _ (Nat.le_of_ble_eq_true rfl)) rfl (fun v h17 H locs f hR hL => ?_) (fun q h9 H locs hp hR hL => x_out hown hlk hR hL (fun x9 h9 => by rw [htb] at h9; exact absurd h9 List.not_mem_nil) ⟨hp.1, hp.2.1⟩ hp.2.2)
        obtain ⟨ri17, rfl, f⟩ := f
        show Wn p l e R s m args below meth c H locs _ (F0 m 115 ls [.int ri17, .int (jI 4), vr a0])
        refine w_iconst hx hb dX2_play_115 ?_
        refine w_iconst hx hb dX2_play_116 ?_
        refine w_call (mi := mX2_ends) (As := [vR a0, vI (jI 4), vI ri17, vI (jI (-1)), vI (jI 1)]) (rest := []) (len := 3) hk hR hL hsz hsB htr hRr (cok_V (i := 1) (C := RX2) (argsL := [.int (jI 4), .int ri17, .int (jI (-1)), .int (jI 1)]) hx hb hown hk hR f.1 (by decide) rfl q2192 q2194 qs41 q2195 kX2_ends.1 kX2_ends.2 rfl dX2_play_117) f.2 wX2_ends iX2_ends (by decide) (cat_sum _ (Nat.le_of_ble_eq_true rfl)) rfl (fun v h18 H locs f hR hL => ?_) (fun q h9 H locs hp hR hL => x_out hown hlk hR hL (fun x9 h9 => by rw [htb] at h9; exact absurd h9 List.not_mem_nil) ⟨hp.1, hp.2.1⟩ hp.2.2)
        obtain ⟨rfl, f⟩ := f
        show Wn p l e R s m args below meth c H locs _ (F0 m 120 ls [])
        exact w_vret hx hb hr hlk hR hL dX2_play_120 f
      · have f := f.2 c9
        refine w_iconst hx hb dX2_play_106 ?_
        refine lv_goto (tgt := 111) hx hb dX2_play_107 (by decide) ?_
        refine w_aload_n (a := gR h2 880 ra2) hx hb dX2_play_111 rfl (lv_v hl (k := 1) rfl rfl) ?_
        refine w_call (mi := mX10_told) (As := [vR (gR h2 880 ra2)]) (rest := [.int (jI 0), vr a0]) (len := 3) hk hR hL hsz hsB htr hRr (cok_V (i := 16) (C := RX10) (argsL := []) hx hb hown hk hR f.1 (by decide) rfl q2415 q1704 q1705 q1706 kX10_told.1 kX10_told.2 rfl dX2_play_112) f.2 wX10_told iX10_told (by decide) (cat_sum _ (Nat.le_of_ble_eq_true rfl)) rfl (fun v h19 H locs f hR hL => ?_) (fun q h9 H locs hp hR hL => x_out hown hlk hR hL (fun x9 h9 => by rw [htb] at h9; exact absurd h9 List.not_mem_nil) ⟨hp.1, hp.2.1⟩ hp.2.2)
        obtain ⟨ri19, rfl, f⟩ := f
        show Wn p l e R s m args below meth c H locs _ (F0 m 115 ls [.int ri19, .int (jI 0), vr a0])
        refine w_iconst hx hb dX2_play_115 ?_
        refine w_iconst hx hb dX2_play_116 ?_
        refine w_call (mi := mX2_ends) (As := [vR a0, vI (jI 0), vI ri19, vI (jI (-1)), vI (jI 1)]) (rest := []) (len := 3) hk hR hL hsz hsB htr hRr (cok_V (i := 1) (C := RX2) (argsL := [.int (jI 0), .int ri19, .int (jI (-1)), .int (jI 1)]) hx hb hown hk hR f.1 (by decide) rfl q2192 q2194 qs41 q2195 kX2_ends.1 kX2_ends.2 rfl dX2_play_117) f.2 wX2_ends iX2_ends (by decide) (cat_sum _ (Nat.le_of_ble_eq_true rfl)) rfl (fun v h20 H locs f hR hL => ?_) (fun q h9 H locs hp hR hL => x_out hown hlk hR hL (fun x9 h9 => by rw [htb] at h9; exact absurd h9 List.not_mem_nil) ⟨hp.1, hp.2.1⟩ hp.2.2)
        obtain ⟨rfl, f⟩ := f
        show Wn p l e R s m args below meth c H locs _ (F0 m 120 ls [])
        exact w_vret hx hb hr hlk hR hL dX2_play_120 f
    · have f := f.2 c9
      refine w_aload_n hx hb dX2_play_69 rfl (lv_v hl (k := 2) rfl rfl) ?_
      refine w_call (mi := mX2_comesBack) (As := [vR a0]) (rest := []) (len := 3) hk hR hL hsz hsB htr hRr (cok_V (i := 1) (C := RX2) (argsL := []) hx hb hown hk hR f.1 (by decide) rfl q2402 q2404 qs56 q2405 kX2_comesBack.1 kX2_comesBack.2 rfl dX2_play_70) f.2 wX2_comesBack iX2_comesBack (by decide) (cat_sum _ (Nat.le_of_ble_eq_true rfl)) rfl (fun v h21 H locs f hR hL => ?_) (fun q h9 H locs hp hR hL => x_out hown hlk hR hL (fun x9 h9 => by rw [htb] at h9; exact absurd h9 List.not_mem_nil) ⟨hp.1, hp.2.1⟩ hp.2.2)
      obtain ⟨rfl, f⟩ := f
      show Wn p l e R s m args below meth c H locs _ (F0 m 73 ls [])
      refine lv_goto (tgt := 101) hx hb dX2_play_73 (by decide) ?_
      refine w_aload_n hx hb dX2_play_101 rfl (lv_v hl (k := 2) rfl rfl) ?_
      refine lv_iload_n hx hb dX2_play_102 rfl (lv_v hl (k := 0) rfl rfl) ?_
      refine lv_if_eq (tgt := 110) hx hb dX2_play_103 (by decide) (fun c9 => ?_) (fun c9 => ?_)
      · have f := f.1 c9
        refine w_iconst hx hb dX2_play_110 ?_
        refine w_aload_n (a := gR h2 880 ra2) hx hb dX2_play_111 rfl (lv_v hl (k := 1) rfl rfl) ?_
        refine w_call (mi := mX10_told) (As := [vR (gR h2 880 ra2)]) (rest := [.int (jI 4), vr a0]) (len := 3) hk hR hL hsz hsB htr hRr (cok_V (i := 16) (C := RX10) (argsL := []) hx hb hown hk hR f.1 (by decide) rfl q2415 q1704 q1705 q1706 kX10_told.1 kX10_told.2 rfl dX2_play_112) f.2 wX10_told iX10_told (by decide) (cat_sum _ (Nat.le_of_ble_eq_true rfl)) rfl (fun v h22 H locs f hR hL => ?_) (fun q h9 H locs hp hR hL => x_out hown hlk hR hL (fun x9 h9 => by rw [htb] at h9; exact absurd h9 List.not_mem_nil) ⟨hp.1, hp.2.1⟩ hp.2.2)
        obtain ⟨ri22, rfl, f⟩ := f
        show Wn p l e R s m args below meth c H locs _ (F0 m 115 ls [.int ri22, .int (jI 4), vr a0])
        refine w_iconst hx hb dX2_play_115 ?_
        refine w_iconst hx hb dX2_play_116 ?_
        refine w_call (mi := mX2_ends) (As := [vR a0, vI (jI 4), vI ri22, vI (jI (-1)), vI (jI 1)]) (rest := []) (len := 3) hk hR hL hsz hsB htr hRr (cok_V (i := 1) (C := RX2) (argsL := [.int (jI 4), .int ri22, .int (jI (-1)), .int (jI 1)]) hx hb hown hk hR f.1 (by decide) rfl q2192 q2194 qs41 q2195 kX2_ends.1 kX2_ends.2 rfl dX2_play_117) f.2 wX2_ends iX2_ends (by decide) (cat_sum _ (Nat.le_of_ble_eq_true rfl)) rfl (fun v h23 H locs f hR hL => ?_) (fun q h9 H locs hp hR hL => x_out hown hlk hR hL (fun x9 h9 => by rw [htb] at h9; exact absurd h9 List.not_mem_nil) ⟨hp.1, hp.2.1⟩ hp.2.2)
        obtain ⟨rfl, f⟩ := f
        show Wn p l e R s m args below meth c H locs _ (F0 m 120 ls [])
        exact w_vret hx hb hr hlk hR hL dX2_play_120 f
      · have f := f.2 c9
        refine w_iconst hx hb dX2_play_106 ?_
        refine lv_goto (tgt := 111) hx hb dX2_play_107 (by decide) ?_
        refine w_aload_n (a := gR h2 880 ra2) hx hb dX2_play_111 rfl (lv_v hl (k := 1) rfl rfl) ?_
        refine w_call (mi := mX10_told) (As := [vR (gR h2 880 ra2)]) (rest := [.int (jI 0), vr a0]) (len := 3) hk hR hL hsz hsB htr hRr (cok_V (i := 16) (C := RX10) (argsL := []) hx hb hown hk hR f.1 (by decide) rfl q2415 q1704 q1705 q1706 kX10_told.1 kX10_told.2 rfl dX2_play_112) f.2 wX10_told iX10_told (by decide) (cat_sum _ (Nat.le_of_ble_eq_true rfl)) rfl (fun v h24 H locs f hR hL => ?_) (fun q h9 H locs hp hR hL => x_out hown hlk hR hL (fun x9 h9 => by rw [htb] at h9; exact absurd h9 List.not_mem_nil) ⟨hp.1, hp.2.1⟩ hp.2.2)
        obtain ⟨ri24, rfl, f⟩ := f
        show Wn p l e R s m args below meth c H locs _ (F0 m 115 ls [.int ri24, .int (jI 0), vr a0])
        refine w_iconst hx hb dX2_play_115 ?_
        refine w_iconst hx hb dX2_play_116 ?_
        refine w_call (mi := mX2_ends) (As := [vR a0, vI (jI 0), vI ri24, vI (jI (-1)), vI (jI 1)]) (rest := []) (len := 3) hk hR hL hsz hsB htr hRr (cok_V (i := 1) (C := RX2) (argsL := [.int (jI 0), .int ri24, .int (jI (-1)), .int (jI 1)]) hx hb hown hk hR f.1 (by decide) rfl q2192 q2194 qs41 q2195 kX2_ends.1 kX2_ends.2 rfl dX2_play_117) f.2 wX2_ends iX2_ends (by decide) (cat_sum _ (Nat.le_of_ble_eq_true rfl)) rfl (fun v h25 H locs f hR hL => ?_) (fun q h9 H locs hp hR hL => x_out hown hlk hR hL (fun x9 h9 => by rw [htb] at h9; exact absurd h9 List.not_mem_nil) ⟨hp.1, hp.2.1⟩ hp.2.2)
        obtain ⟨rfl, f⟩ := f
        show Wn p l e R s m args below meth c H locs _ (F0 m 120 ls [])
        exact w_vret hx hb hr hlk hR hL dX2_play_120 f
theorem t_X2_play {G : Wd} {l : Launch} {d : Nat} {post : Option Value → VH → Prop} {xp : Nat → VH → Prop} {i1 : Int32} {a0 : Nat} {h : VH} (hd : 9 ≤ d)
    (f : (kd h a0 = 2) ∧ D G l (d - 1) mX2_own [vR a0] h (fun v h1 => ∃ ra1, v = some (vr ra1) ∧ ((kd h1 ra1 = 9) ∧ D G l (d - 1) mJ21_remove [vR ra1, vI i1] h1 (fun v h2 => ∃ ra2, v = some (vr ra2) ∧ ((ra2 = 0 ∨ kd h2 ra2 = 23) ∧ ((kd h2 ra2 = 23) ∧ ((kd h2 (gR h2 880 ra2) = 17) ∧ D G l (d - 1) mX10_color [vR (gR h2 880 ra2)] h2 (fun v h3 => ∃ ri3, v = some (.int ri3) ∧ ((kd h3 (gR h2 880 ra2) = 17) ∧ D G l (d - 1) mX10_rank [vR (gR h2 880 ra2)] h3 (fun v h4 => ∃ ri4, v = some (.int ri4) ∧ ((kd h4 a0 = 2) ∧ D G l (d - 1) mX2_canPlay [vR a0, vI ri3, vI ri4] h4 (fun v h5 => ∃ ri5, v = some (.int ri5) ∧ ((ri5 = 0 → ((kd h5 a0 = 2) ∧ D G l (d - 1) mX2_goes [vR a0, vR (gR h2 880 ra2)] h5 (fun v h6 => v = none ∧ ((kd h6 a0 = 2) ∧ ((kd h6 a0 = 2) ∧ (∀ h7 : VH, h7 = sI h6 49 a0 ((gI h6 49 a0) - (jI 1)) → ((kd h7 a0 = 2) ∧ ((kd h7 (gR h7 44 a0) = 200 ∨ kd h7 (gR h7 44 a0) = 300) ∧ (vp_in (jI 1) (ln h7 (gR h7 44 a0))) ∧ ((kd h7 (gR h7 44 a0) = 200) ∧ (vp_in (jI 1) (ln h7 (gR h7 44 a0))) ∧ (∀ h8 : VH, h8 = sI h7 ((jI 1)).toNatClampNeg (gR h7 44 a0) ((gI h7 ((jI 1)).toNatClampNeg (gR h7 44 a0)) + (jI 1)) → ((ri5 = 0 → ((kd h8 (gR h2 880 ra2) = 17) ∧ D G l (d - 1) mX10_told [vR (gR h2 880 ra2)] h8 (fun v h9 => ∃ ri9, v = some (.int ri9) ∧ ((kd h9 a0 = 2) ∧ D G l (d - 1) mX2_ends [vR a0, vI (jI 4), vI ri9, vI (jI (-1)), vI (jI 1)] h9 (fun v h10 => v = none ∧ (post none h10)) xp)) xp)) ∧ (¬ ri5 = 0 → ((kd h8 (gR h2 880 ra2) = 17) ∧ D G l (d - 1) mX10_told [vR (gR h2 880 ra2)] h8 (fun v h11 => ∃ ri11, v = some (.int ri11) ∧ ((kd h11 a0 = 2) ∧ D G l (d - 1) mX2_ends [vR a0, vI (jI 0), vI ri11, vI (jI (-1)), vI (jI 1)] h11 (fun v h12 => v = none ∧ (post none h12)) xp)) xp))))))))))) xp)) ∧ (¬ ri5 = 0 → ((kd h5 a0 = 2) ∧ ((kd h5 (gR h2 880 ra2) = 17) ∧ D G l (d - 1) mX10_color [vR (gR h2 880 ra2)] h5 (fun v h13 => ∃ ri13, v = some (.int ri13) ∧ ((kd h13 (gR h5 43 a0) = 200 ∨ kd h13 (gR h5 43 a0) = 300) ∧ (vp_in ri13 (ln h13 (gR h5 43 a0))) ∧ ((kd h13 (gR h5 43 a0) = 200) ∧ (vp_in ri13 (ln h13 (gR h5 43 a0))) ∧ (∀ h14 : VH, h14 = sI h13 (ri13).toNatClampNeg (gR h5 43 a0) ((gI h13 (ri13).toNatClampNeg (gR h5 43 a0)) + (jI 1)) → ((kd h14 a0 = 2) ∧ ((kd h14 (gR h14 44 a0) = 200 ∨ kd h14 (gR h14 44 a0) = 300) ∧ (vp_in (jI 0) (ln h14 (gR h14 44 a0))) ∧ ((kd h14 (gR h14 44 a0) = 200) ∧ (vp_in (jI 0) (ln h14 (gR h14 44 a0))) ∧ (∀ h15 : VH, h15 = sI h14 ((jI 0)).toNatClampNeg (gR h14 44 a0) ((gI h14 ((jI 0)).toNatClampNeg (gR h14 44 a0)) + (jI 1)) → ((kd h15 (gR h2 880 ra2) = 17) ∧ D G l (d - 1) mX10_rank [vR (gR h2 880 ra2)] h15 (fun v h16 => ∃ ri16, v = some (.int ri16) ∧ ((kd h16 a0 = 2) ∧ ((kd h16 (gR h16 40 a0) = 3) ∧ ((¬ ri16 = (gI h16 81 (gR h16 40 a0)) → ((ri5 = 0 → ((kd h16 (gR h2 880 ra2) = 17) ∧ D G l (d - 1) mX10_told [vR (gR h2 880 ra2)] h16 (fun v h17 => ∃ ri17, v = some (.int ri17) ∧ ((kd h17 a0 = 2) ∧ D G l (d - 1) mX2_ends [vR a0, vI (jI 4), vI ri17, vI (jI (-1)), vI (jI 1)] h17 (fun v h18 => v = none ∧ (post none h18)) xp)) xp)) ∧ (¬ ri5 = 0 → ((kd h16 (gR h2 880 ra2) = 17) ∧ D G l (d - 1) mX10_told [vR (gR h2 880 ra2)] h16 (fun v h19 => ∃ ri19, v = some (.int ri19) ∧ ((kd h19 a0 = 2) ∧ D G l (d - 1) mX2_ends [vR a0, vI (jI 0), vI ri19, vI (jI (-1)), vI (jI 1)] h19 (fun v h20 => v = none ∧ (post none h20)) xp)) xp)))) ∧ (ri16 = (gI h16 81 (gR h16 40 a0)) → ((kd h16 a0 = 2) ∧ D G l (d - 1) mX2_comesBack [vR a0] h16 (fun v h21 => v = none ∧ ((ri5 = 0 → ((kd h21 (gR h2 880 ra2) = 17) ∧ D G l (d - 1) mX10_told [vR (gR h2 880 ra2)] h21 (fun v h22 => ∃ ri22, v = some (.int ri22) ∧ ((kd h22 a0 = 2) ∧ D G l (d - 1) mX2_ends [vR a0, vI (jI 4), vI ri22, vI (jI (-1)), vI (jI 1)] h22 (fun v h23 => v = none ∧ (post none h23)) xp)) xp)) ∧ (¬ ri5 = 0 → ((kd h21 (gR h2 880 ra2) = 17) ∧ D G l (d - 1) mX10_told [vR (gR h2 880 ra2)] h21 (fun v h24 => ∃ ri24, v = some (.int ri24) ∧ ((kd h24 a0 = 2) ∧ D G l (d - 1) mX2_ends [vR a0, vI (jI 0), vI ri24, vI (jI (-1)), vI (jI 1)] h24 (fun v h25 => v = none ∧ (post none h25)) xp)) xp)))) xp)))))) xp))))))))) xp))))) xp)) xp)) xp)))) xp)) xp) : D G l d mX2_play [vR a0, vI i1] h post xp := D_in hd rfl rfl fun V XV C => b_X2_play_0 C f
theorem b_X2_reach_0 {G : Wd} {l : Launch} {d : Nat} {post : Option Value → VH → Prop} {xp : Nat → VH → Prop} {V : Nat → List (Nat × VT) → List Value → VH → Prop} {XV : Nat → List (Nat × VT) → Nat → VH → Prop} (C : Ctx G l d mX2_reach post xp V XV) {i1 : Int32} {a0 : Nat} {h : VH}
    (f : (kd h a0 = 2) ∧ ((kd h (gR h 43 a0) = 200 ∨ kd h (gR h 43 a0) = 300) ∧ (vp_in i1 (ln h (gR h 43 a0))) ∧ (V 7 [(0, vR a0), (1, vI i1), (2, vI (gI h (i1).toNatClampNeg (gR h 43 a0)))] [] h))) : V 0 [(0, vR a0), (1, vI i1)] [] h := by
  obtain ⟨p, e, R, s, m, args, below, meth, c, Q, ⟨hx, hb, hr, hlk, hml, hown, hk, hRr, htb, hnm, hsB, htr, hQ⟩, hV, hX⟩ := C
  rw [hV]
  intro H locs ls hR hL hl
  have hb : c.code = cX2_reach := hb
  have hr : meth.sig.returnType = some .int := hr
  have hml : c.maxLocals = 3 := hml
  have hown : s.vm.findClass RX2 = some m.cls := hown
  have hl : lv_has ls 3 (lm [(0, vR a0), (1, vI i1)]) := hl
  have hsz : ls.size = c.maxLocals := hl.1.trans hml.symm
  subst hQ
  refine w_aload_n hx hb dX2_reach_0 rfl (lv_v hl (k := 0) rfl rfl) ?_
  obtain ⟨f1, f⟩ := f
  refine w_get (i := 1) (k := 3) (v := vr (gR h 43 a0)) hx hb hown hk hR clk_X2 f1 (by decide) (by decide) q713 (fun _ h9 => h9) rfl dX2_reach_1 ?_
  refine lv_iload_n hx hb dX2_reach_4 rfl (lv_v hl (k := 1) rfl rfl) ?_
  obtain ⟨f1, f2, f⟩ := f
  refine or_k f1 (fun q9 kk => w_iald (t := 0) hx hb hk hR q9 (by decide) rfl f2 dX2_reach_5 kk) (fun q9 kk => w_iald (t := 100) hx hb hk hR q9 (by decide) rfl f2 dX2_reach_5 kk) ?_
  refine w_istore_n (L' := [(2, vI (gI h (i1).toNatClampNeg (gR h 43 a0))), (0, vR a0), (1, vI i1)]) hx hb dX2_reach_6 rfl hl (by decide) rfl (fun ls hl => ?_)
  have hsz : ls.size = c.maxLocals := hl.1.trans hml.symm
  exact (hV _ _ _ _).mp f H locs _ hR hL (lv_p hl [1, 2, 0] rfl)
theorem b_X2_reach_7 {G : Wd} {l : Launch} {d : Nat} {post : Option Value → VH → Prop} {xp : Nat → VH → Prop} {V : Nat → List (Nat × VT) → List Value → VH → Prop} {XV : Nat → List (Nat × VT) → Nat → VH → Prop} (C : Ctx G l d mX2_reach post xp V XV) {i1 i2 : Int32} {a0 : Nat} {h : VH}
    (f : (kd h a0 = 2) ∧ ((kd h (gR h 40 a0) = 3) ∧ (((gI h 81 (gR h 40 a0)) ≤ i2 → (post (some (.int i2)) h)) ∧ (¬ (gI h 81 (gR h 40 a0)) ≤ i2 → ((kd h a0 = 2) ∧ D G l d mX2_isGone [vR a0, vI i1, vI (i2 + (jI 1))] h (fun v h1 => ∃ ri1, v = some (.int ri1) ∧ ((¬ ri1 = 0 → (post (some (.int i2)) h1)) ∧ (ri1 = 0 → (V 7 [(0, vR a0), (1, vI i1), (2, vI (i2 + (jI 1)))] [] h1)))) xp))))) : V 7 [(0, vR a0), (1, vI i1), (2, vI i2)] [] h := by
  obtain ⟨p, e, R, s, m, args, below, meth, c, Q, ⟨hx, hb, hr, hlk, hml, hown, hk, hRr, htb, hnm, hsB, htr, hQ⟩, hV, hX⟩ := C
  rw [hV]
  intro H locs ls hR hL hl
  have hb : c.code = cX2_reach := hb
  have hr : meth.sig.returnType = some .int := hr
  have hml : c.maxLocals = 3 := hml
  have hown : s.vm.findClass RX2 = some m.cls := hown
  have hl : lv_has ls 3 (lm [(0, vR a0), (1, vI i1), (2, vI i2)]) := hl
  have hsz : ls.size = c.maxLocals := hl.1.trans hml.symm
  subst hQ
  refine lv_iload_n hx hb dX2_reach_7 rfl (lv_v hl (k := 2) rfl rfl) ?_
  refine w_aload_n hx hb dX2_reach_8 rfl (lv_v hl (k := 0) rfl rfl) ?_
  obtain ⟨f1, f⟩ := f
  refine w_get (i := 1) (k := 0) (v := vr (gR h 40 a0)) hx hb hown hk hR clk_X2 f1 (by decide) (by decide) q704 (fun _ h9 => h9) rfl dX2_reach_9 ?_
  obtain ⟨f1, f⟩ := f
  refine w_getN (i := 2) (k := 1) (v := .int (gI h 81 (gR h 40 a0))) hx hb hown hk hR clk_X3 f1 (by decide) (by decide) q293 (fun _ h9 => h9) rfl dX2_reach_12 ?_
  refine lv_icmp_ge (tgt := 35) hx hb dX2_reach_15 (by decide) (fun c9 => ?_) (fun c9 => ?_)
  · have f := f.1 c9
    refine lv_iload_n hx hb dX2_reach_35 rfl (lv_v hl (k := 2) rfl rfl) ?_
    exact w_iret hx hb hr hlk hR hL dX2_reach_36 f
  · have f := f.2 c9
    refine w_aload_n hx hb dX2_reach_18 rfl (lv_v hl (k := 0) rfl rfl) ?_
    refine lv_iload_n hx hb dX2_reach_19 rfl (lv_v hl (k := 1) rfl rfl) ?_
    refine lv_iload_n hx hb dX2_reach_20 rfl (lv_v hl (k := 2) rfl rfl) ?_
    refine w_iconst hx hb dX2_reach_21 ?_
    refine lv_iadd hx hb dX2_reach_22 ?_
    refine w_call (mi := mX2_isGone) (As := [vR a0, vI i1, vI (i2 + (jI 1))]) (rest := []) (len := 3) hk hR hL hsz hsB htr hRr (cok_V (i := 1) (C := RX2) (argsL := [.int i1, .int (i2 + (jI 1))]) hx hb hown hk hR f.1 (by decide) rfl q2311 q2313 qs51 q2314 kX2_isGone.1 kX2_isGone.2 rfl dX2_reach_23) f.2 wX2_isGone iX2_isGone (by decide) (cat_sum _ (Nat.le_of_ble_eq_true rfl)) rfl (fun v h1 H locs f hR hL => ?_) (fun q h9 H locs hp hR hL => x_out hown hlk hR hL (fun x9 h9 => by rw [htb] at h9; exact absurd h9 List.not_mem_nil) ⟨hp.1, hp.2.1⟩ hp.2.2)
    obtain ⟨ri1, rfl, f⟩ := f
    show Wn p l e R s m args below meth c H locs _ (F0 m 26 ls [.int ri1])
    refine lv_if_ne (tgt := 35) hx hb dX2_reach_26 (by decide) (fun c9 => ?_) (fun c9 => ?_)
    · have f := f.1 c9
      refine lv_iload_n hx hb dX2_reach_35 rfl (lv_v hl (k := 2) rfl rfl) ?_
      exact w_iret hx hb hr hlk hR hL dX2_reach_36 f
    · have f := f.2 c9
      refine w_iinc (L' := [(2, vI (i2 + (jI 1))), (0, vR a0), (1, vI i1)]) hx hb dX2_reach_29 hl (k := 2) rfl (by decide) rfl (fun ls hl => ?_)
      have hsz : ls.size = c.maxLocals := hl.1.trans hml.symm
      refine lv_goto (tgt := 7) hx hb dX2_reach_32 (by decide) ?_
      exact (hV _ _ _ _).mp f H locs _ hR hL (lv_p hl [1, 2, 0] rfl)
theorem b_X2_score_0 {G : Wd} {l : Launch} {d : Nat} {post : Option Value → VH → Prop} {xp : Nat → VH → Prop} {V : Nat → List (Nat × VT) → List Value → VH → Prop} {XV : Nat → List (Nat × VT) → Nat → VH → Prop} (C : Ctx G l d mX2_score post xp V XV) {a0 : Nat} {h : VH}
    (f : (kd h a0 = 2) ∧ ((isArr h (gR h 43 a0)) ∧ (V 13 [(1, vI (jI 0)), (2, vR (gR h 43 a0)), (3, vI (Int32.ofNat (ln h (gR h 43 a0)))), (4, vI (jI 0))] [] h))) : V 0 [(0, vR a0)] [] h := by
  obtain ⟨p, e, R, s, m, args, below, meth, c, Q, ⟨hx, hb, hr, hlk, hml, hown, hk, hRr, htb, hnm, hsB, htr, hQ⟩, hV, hX⟩ := C
  rw [hV]
  intro H locs ls hR hL hl
  have hb : c.code = cX2_score := hb
  have hr : meth.sig.returnType = some .int := hr
  have hml : c.maxLocals = 6 := hml
  have hown : s.vm.findClass RX2 = some m.cls := hown
  have hl : lv_has ls 6 (lm [(0, vR a0)]) := hl
  have hsz : ls.size = c.maxLocals := hl.1.trans hml.symm
  subst hQ
  refine w_iconst hx hb dX2_score_0 ?_
  refine w_istore_n (L' := [(1, vI (jI 0)), (0, vR a0)]) hx hb dX2_score_1 rfl hl (by decide) rfl (fun ls hl => ?_)
  have hsz : ls.size = c.maxLocals := hl.1.trans hml.symm
  refine w_aload_n hx hb dX2_score_2 rfl (lv_v hl (k := 1) rfl rfl) ?_
  obtain ⟨f1, f⟩ := f
  refine w_get (i := 1) (k := 3) (v := vr (gR h 43 a0)) hx hb hown hk hR clk_X2 f1 (by decide) (by decide) q713 (fun _ h9 => h9) rfl dX2_score_3 ?_
  refine w_astore_n' (L' := [(2, vR (gR h 43 a0)), (1, vI (jI 0)), (0, vR a0)]) hx hb dX2_score_6 rfl hl (by decide) rfl (fun ls hl => ?_)
  have hsz : ls.size = c.maxLocals := hl.1.trans hml.symm
  refine w_aload_n (a := gR h 43 a0) hx hb dX2_score_7 rfl (lv_v hl (k := 0) rfl rfl) ?_
  obtain ⟨f1, f⟩ := f
  obtain ⟨t9, ty9, g1, g2, g3⟩ := f1.use
  refine w_alen hx hb hk hR g1 g2 g3 dX2_score_8 ?_
  refine w_istore_n (L' := [(3, vI (Int32.ofNat (ln h (gR h 43 a0)))), (2, vR (gR h 43 a0)), (1, vI (jI 0)), (0, vR a0)]) hx hb dX2_score_9 rfl hl (by decide) rfl (fun ls hl => ?_)
  have hsz : ls.size = c.maxLocals := hl.1.trans hml.symm
  refine w_iconst hx hb dX2_score_10 ?_
  refine w_istore (L' := [(4, vI (jI 0)), (3, vI (Int32.ofNat (ln h (gR h 43 a0)))), (2, vR (gR h 43 a0)), (1, vI (jI 0)), (0, vR a0)]) hx hb dX2_score_11 hl (by decide) rfl (fun ls hl => ?_)
  have hsz : ls.size = c.maxLocals := hl.1.trans hml.symm
  exact (hV _ _ _ _).mp f H locs _ hR hL (lv_p hl [3, 2, 1, 0] rfl)
theorem b_X2_score_13 {G : Wd} {l : Launch} {d : Nat} {post : Option Value → VH → Prop} {xp : Nat → VH → Prop} {V : Nat → List (Nat × VT) → List Value → VH → Prop} {XV : Nat → List (Nat × VT) → Nat → VH → Prop} (C : Ctx G l d mX2_score post xp V XV) {i1 i3 i4 : Int32} {a2 : Nat} {h : VH}
    (f : (i3 ≤ i4 → (post (some (.int i1)) h)) ∧ (¬ i3 ≤ i4 → ((kd h a2 = 200 ∨ kd h a2 = 300) ∧ (vp_in i4 (ln h a2)) ∧ (V 13 [(1, vI (i1 + (gI h (i4).toNatClampNeg a2))), (2, vR a2), (3, vI i3), (4, vI (i4 + (jI 1)))] [] h)))) : V 13 [(1, vI i1), (2, vR a2), (3, vI i3), (4, vI i4)] [] h := by
  obtain ⟨p, e, R, s, m, args, below, meth, c, Q, ⟨hx, hb, hr, hlk, hml, hown, hk, hRr, htb, hnm, hsB, htr, hQ⟩, hV, hX⟩ := C
  rw [hV]
  intro H locs ls hR hL hl
  have hb : c.code = cX2_score := hb
  have hr : meth.sig.returnType = some .int := hr
  have hml : c.maxLocals = 6 := hml
  have hown : s.vm.findClass RX2 = some m.cls := hown
  have hl : lv_has ls 6 (lm [(1, vI i1), (2, vR a2), (3, vI i3), (4, vI i4)]) := hl
  have hsz : ls.size = c.maxLocals := hl.1.trans hml.symm
  subst hQ
  refine lv_iload hx hb dX2_score_13 (lv_v hl (k := 3) rfl rfl) ?_
  refine lv_iload_n hx hb dX2_score_15 rfl (lv_v hl (k := 2) rfl rfl) ?_
  refine lv_icmp_ge (tgt := 36) hx hb dX2_score_16 (by decide) (fun c9 => ?_) (fun c9 => ?_)
  · have f := f.1 c9
    refine lv_iload_n hx hb dX2_score_36 rfl (lv_v hl (k := 0) rfl rfl) ?_
    exact w_iret hx hb hr hlk hR hL dX2_score_37 f
  · have f := f.2 c9
    refine w_aload_n hx hb dX2_score_19 rfl (lv_v hl (k := 1) rfl rfl) ?_
    refine lv_iload hx hb dX2_score_20 (lv_v hl (k := 3) rfl rfl) ?_
    obtain ⟨f1, f2, f⟩ := f
    refine or_k f1 (fun q9 kk => w_iald (t := 0) hx hb hk hR q9 (by decide) rfl f2 dX2_score_22 kk) (fun q9 kk => w_iald (t := 100) hx hb hk hR q9 (by decide) rfl f2 dX2_score_22 kk) ?_
    refine w_istore (L' := [(5, vI (gI h (i4).toNatClampNeg a2)), (1, vI i1), (2, vR a2), (3, vI i3), (4, vI i4)]) hx hb dX2_score_23 hl (by decide) rfl (fun ls hl => ?_)
    have hsz : ls.size = c.maxLocals := hl.1.trans hml.symm
    refine lv_iload_n hx hb dX2_score_25 rfl (lv_v hl (k := 1) rfl rfl) ?_
    refine lv_iload hx hb dX2_score_26 (lv_v hl (k := 0) rfl rfl) ?_
    refine lv_iadd hx hb dX2_score_28 ?_
    refine w_istore_n (L' := [(1, vI (i1 + (gI h (i4).toNatClampNeg a2))), (5, vI (gI h (i4).toNatClampNeg a2)), (2, vR a2), (3, vI i3), (4, vI i4)]) hx hb dX2_score_29 rfl hl (by decide) rfl (fun ls hl => ?_)
    have hsz : ls.size = c.maxLocals := hl.1.trans hml.symm
    refine w_iinc (L' := [(4, vI (i4 + (jI 1))), (1, vI (i1 + (gI h (i4).toNatClampNeg a2))), (5, vI (gI h (i4).toNatClampNeg a2)), (2, vR a2), (3, vI i3)]) hx hb dX2_score_30 hl (k := 4) rfl (by decide) rfl (fun ls hl => ?_)
    have hsz : ls.size = c.maxLocals := hl.1.trans hml.symm
    refine lv_goto (tgt := 13) hx hb dX2_score_33 (by decide) ?_
    exact (hV _ _ _ _).mp f H locs _ hR hL (lv_p hl [1, 3, 4, 0] rfl)
theorem b_X2_touches_0 {G : Wd} {l : Launch} {d : Nat} {post : Option Value → VH → Prop} {xp : Nat → VH → Prop} {V : Nat → List (Nat × VT) → List Value → VH → Prop} {XV : Nat → List (Nat × VT) → Nat → VH → Prop} (C : Ctx G l d mX2_touches post xp V XV) {i1 i2 i3 : Int32} {a0 : Nat} {h : VH}
    (f : V 6 [(0, vR a0), (1, vI i1), (2, vI i2), (3, vI i3), (4, vI (jI 0)), (5, vI (jI 0))] [] h) : V 0 [(0, vR a0), (1, vI i1), (2, vI i2), (3, vI i3)] [] h := by
  obtain ⟨p, e, R, s, m, args, below, meth, c, Q, ⟨hx, hb, hr, hlk, hml, hown, hk, hRr, htb, hnm, hsB, htr, hQ⟩, hV, hX⟩ := C
  rw [hV]
  intro H locs ls hR hL hl
  have hb : c.code = cX2_touches := hb
  have hr : meth.sig.returnType = some .int := hr
  have hml : c.maxLocals = 6 := hml
  have hown : s.vm.findClass RX2 = some m.cls := hown
  have hl : lv_has ls 6 (lm [(0, vR a0), (1, vI i1), (2, vI i2), (3, vI i3)]) := hl
  have hsz : ls.size = c.maxLocals := hl.1.trans hml.symm
  subst hQ
  refine w_iconst hx hb dX2_touches_0 ?_
  refine w_istore (L' := [(4, vI (jI 0)), (0, vR a0), (1, vI i1), (2, vI i2), (3, vI i3)]) hx hb dX2_touches_1 hl (by decide) rfl (fun ls hl => ?_)
  have hsz : ls.size = c.maxLocals := hl.1.trans hml.symm
  refine w_iconst hx hb dX2_touches_3 ?_
  refine w_istore (L' := [(5, vI (jI 0)), (4, vI (jI 0)), (0, vR a0), (1, vI i1), (2, vI i2), (3, vI i3)]) hx hb dX2_touches_4 hl (by decide) rfl (fun ls hl => ?_)
  have hsz : ls.size = c.maxLocals := hl.1.trans hml.symm
  exact (hV _ _ _ _).mp f H locs _ hR hL (lv_p hl [2, 3, 4, 5, 1, 0] rfl)
theorem b_X2_touches_6 {G : Wd} {l : Launch} {d : Nat} {post : Option Value → VH → Prop} {xp : Nat → VH → Prop} {V : Nat → List (Nat × VT) → List Value → VH → Prop} {XV : Nat → List (Nat × VT) → Nat → VH → Prop} (C : Ctx G l d mX2_touches post xp V XV) {i1 i2 i3 i4 i5 : Int32} {a0 : Nat} {h : VH}
    (f : (kd h a0 = 2) ∧ (((kd h (gR h 41 a0) = 4) ∧ D G l d mJ2_get [vR (gR h 41 a0), vI i1] h (fun v h9 => ∃ b9, v = some (vr b9) ∧ V 18 [(0, vR a0), (1, vI i1), (2, vI i2), (3, vI i3), (4, vI i4), (5, vI i5)] [vr b9, .int i5] h9) xp) ∨ ((kd h (gR h 41 a0) = 9) ∧ D G l d mJ21_get [vR (gR h 41 a0), vI i1] h (fun v h9 => ∃ b9, v = some (vr b9) ∧ V 18 [(0, vR a0), (1, vI i1), (2, vI i2), (3, vI i3), (4, vI i4), (5, vI i5)] [vr b9, .int i5] h9) xp))) : V 6 [(0, vR a0), (1, vI i1), (2, vI i2), (3, vI i3), (4, vI i4), (5, vI i5)] [] h := by
  obtain ⟨p, e, R, s, m, args, below, meth, c, Q, ⟨hx, hb, hr, hlk, hml, hown, hk, hRr, htb, hnm, hsB, htr, hQ⟩, hV, hX⟩ := C
  rw [hV]
  intro H locs ls hR hL hl
  have hb : c.code = cX2_touches := hb
  have hr : meth.sig.returnType = some .int := hr
  have hml : c.maxLocals = 6 := hml
  have hown : s.vm.findClass RX2 = some m.cls := hown
  have hl : lv_has ls 6 (lm [(0, vR a0), (1, vI i1), (2, vI i2), (3, vI i3), (4, vI i4), (5, vI i5)]) := hl
  have hsz : ls.size = c.maxLocals := hl.1.trans hml.symm
  subst hQ
  refine lv_iload hx hb dX2_touches_6 (lv_v hl (k := 5) rfl rfl) ?_
  refine w_aload_n hx hb dX2_touches_8 rfl (lv_v hl (k := 0) rfl rfl) ?_
  obtain ⟨f1, f⟩ := f
  refine w_get (i := 1) (k := 1) (v := vr (gR h 41 a0)) hx hb hown hk hR clk_X2 f1 (by decide) (by decide) q708 (fun _ h9 => h9) rfl dX2_touches_9 ?_
  refine lv_iload_n hx hb dX2_touches_12 rfl (lv_v hl (k := 1) rfl rfl) ?_
  rcases f with f | f
  · exact w_call (mi := mJ2_get) (As := [vR (gR h 41 a0), vI i1]) (rest := [.int i5]) (len := 5) hk hR hL hsz hsB htr hRr (cok_F (n := 1) (x := ⟨"java/util/List", "get", "(I)Ljava/lang/Object;"⟩) (i := 3) (C := RJ2) (argsL := [.int i1]) hx hb hown hk hR f.1 (by decide) rfl ⟨by decide +kernel, by decide +kernel⟩ q1605 q1300 q1299 q1304 q1302 q1134 q1303 q1301 q1305 (by unfold nPar; decide +kernel) rfl dX2_touches_13) f.2 wJ2_get iJ2_get (by decide) (cat_sum _ (Nat.le_of_ble_eq_true rfl)) rfl (fun v h9 H locs hp hR hL => by obtain ⟨z9, rfl, f⟩ := hp; exact (hV _ _ _ _).mp f H locs _ hR hL (lv_p hl [0, 1, 2, 3, 4, 5] rfl)) (fun q h9 H locs hp hR hL => x_out hown hlk hR hL (fun x9 h9 => by rw [htb] at h9; exact absurd h9 List.not_mem_nil) ⟨hp.1, hp.2.1⟩ hp.2.2)
  exact w_call (mi := mJ21_get) (As := [vR (gR h 41 a0), vI i1]) (rest := [.int i5]) (len := 5) hk hR hL hsz hsB htr hRr (cok_F (n := 1) (x := ⟨"java/util/List", "get", "(I)Ljava/lang/Object;"⟩) (i := 8) (C := RJ21) (argsL := [.int i1]) hx hb hown hk hR f.1 (by decide) rfl ⟨by decide +kernel, by decide +kernel⟩ q1605 q1300 q1299 q1317 q1315 q1140 q1316 q1314 q1318 (by unfold nPar; decide +kernel) rfl dX2_touches_13) f.2 wJ21_get iJ21_get (by decide) (cat_sum _ (Nat.le_of_ble_eq_true rfl)) rfl (fun v h9 H locs hp hR hL => by obtain ⟨z9, rfl, f⟩ := hp; exact (hV _ _ _ _).mp f H locs _ hR hL (lv_p hl [0, 1, 2, 3, 4, 5] rfl)) (fun q h9 H locs hp hR hL => x_out hown hlk hR hL (fun x9 h9 => by rw [htb] at h9; exact absurd h9 List.not_mem_nil) ⟨hp.1, hp.2.1⟩ hp.2.2)
theorem b_X2_touches_18 {G : Wd} {l : Launch} {d : Nat} {post : Option Value → VH → Prop} {xp : Nat → VH → Prop} {V : Nat → List (Nat × VT) → List Value → VH → Prop} {XV : Nat → List (Nat × VT) → Nat → VH → Prop} (C : Ctx G l d mX2_touches post xp V XV) {i1 i2 i3 i4 i5 x0 : Int32} {a0 b1 : Nat} {h : VH}
    (f : (b1 = 0 ∨ kd h b1 = 9) ∧ ((kd h b1 = 9) ∧ D G l d mJ21_size [vR b1] h (fun v h1 => ∃ ri1, v = some (.int ri1) ∧ ((ri1 ≤ x0 → (post (some (.int i4)) h1)) ∧ (¬ ri1 ≤ x0 → ((kd h1 a0 = 2) ∧ (((kd h1 (gR h1 41 a0) = 4) ∧ D G l d mJ2_get [vR (gR h1 41 a0), vI i1] h1 (fun v h9 => ∃ b9, v = some (vr b9) ∧ V 39 [(0, vR a0), (1, vI i1), (2, vI i2), (3, vI i3), (5, vI i5)] [vr b9, .int i4] h9) xp) ∨ ((kd h1 (gR h1 41 a0) = 9) ∧ D G l d mJ21_get [vR (gR h1 41 a0), vI i1] h1 (fun v h9 => ∃ b9, v = some (vr b9) ∧ V 39 [(0, vR a0), (1, vI i1), (2, vI i2), (3, vI i3), (5, vI i5)] [vr b9, .int i4] h9) xp)))))) xp)) : V 18 [(0, vR a0), (1, vI i1), (2, vI i2), (3, vI i3), (4, vI i4), (5, vI i5)] [vr b1, .int x0] h := by
  obtain ⟨p, e, R, s, m, args, below, meth, c, Q, ⟨hx, hb, hr, hlk, hml, hown, hk, hRr, htb, hnm, hsB, htr, hQ⟩, hV, hX⟩ := C
  rw [hV]
  intro H locs ls hR hL hl
  have hb : c.code = cX2_touches := hb
  have hr : meth.sig.returnType = some .int := hr
  have hml : c.maxLocals = 6 := hml
  have hown : s.vm.findClass RX2 = some m.cls := hown
  have hl : lv_has ls 6 (lm [(0, vR a0), (1, vI i1), (2, vI i2), (3, vI i3), (4, vI i4), (5, vI i5)]) := hl
  have hsz : ls.size = c.maxLocals := hl.1.trans hml.symm
  subst hQ
  obtain ⟨f1, f⟩ := f
  refine w_castS (i := 8) (C := "java/util/LinkedList") hx hb hown hk hR f1 (by decide) rfl q677 dX2_touches_18 ?_
  refine w_call (mi := mJ21_size) (As := [vR b1]) (rest := [.int x0]) (len := 3) hk hR hL hsz hsB htr hRr (cok_V (i := 8) (C := RJ21) (argsL := []) hx hb hown hk hR f.1 (by decide) rfl q1606 q1143 q3608 q1145 kJ21_size.1 kJ21_size.2 rfl dX2_touches_21) f.2 wJ21_size iJ21_size (by decide) (cat_sum _ (Nat.le_of_ble_eq_true rfl)) rfl (fun v h1 H locs f hR hL => ?_) (fun q h9 H locs hp hR hL => x_out hown hlk hR hL (fun x9 h9 => by rw [htb] at h9; exact absurd h9 List.not_mem_nil) ⟨hp.1, hp.2.1⟩ hp.2.2)
  obtain ⟨ri1, rfl, f⟩ := f
  show Wn p l e R s m args below meth c H locs _ (F0 m 24 ls [.int ri1, .int x0])
  refine lv_icmp_ge (tgt := 75) hx hb dX2_touches_24 (by decide) (fun c9 => ?_) (fun c9 => ?_)
  · have f := f.1 c9
    refine lv_iload hx hb dX2_touches_75 (lv_v hl (k := 4) rfl rfl) ?_
    exact w_iret hx hb hr hlk hR hL dX2_touches_77 f
  · have f := f.2 c9
    refine lv_iload hx hb dX2_touches_27 (lv_v hl (k := 4) rfl rfl) ?_
    refine w_aload_n hx hb dX2_touches_29 rfl (lv_v hl (k := 0) rfl rfl) ?_
    obtain ⟨f1, f⟩ := f
    refine w_get (i := 1) (k := 1) (v := vr (gR h1 41 a0)) hx hb hown hk hR clk_X2 f1 (by decide) (by decide) q708 (fun _ h9 => h9) rfl dX2_touches_30 ?_
    refine lv_iload_n hx hb dX2_touches_33 rfl (lv_v hl (k := 1) rfl rfl) ?_
    rcases f with f | f
    · exact w_call (mi := mJ2_get) (As := [vR (gR h1 41 a0), vI i1]) (rest := [.int i4]) (len := 5) hk hR hL hsz hsB htr hRr (cok_F (n := 1) (x := ⟨"java/util/List", "get", "(I)Ljava/lang/Object;"⟩) (i := 3) (C := RJ2) (argsL := [.int i1]) hx hb hown hk hR f.1 (by decide) rfl ⟨by decide +kernel, by decide +kernel⟩ q1605 q1300 q1299 q1304 q1302 q1134 q1303 q1301 q1305 (by unfold nPar; decide +kernel) rfl dX2_touches_34) f.2 wJ2_get iJ2_get (by decide) (cat_sum _ (Nat.le_of_ble_eq_true rfl)) rfl (fun v h9 H locs hp hR hL => by obtain ⟨z9, rfl, f⟩ := hp; exact (hV _ _ _ _).mp f H locs _ hR hL (lv_p hl [0, 1, 2, 3, 5] rfl)) (fun q h9 H locs hp hR hL => x_out hown hlk hR hL (fun x9 h9 => by rw [htb] at h9; exact absurd h9 List.not_mem_nil) ⟨hp.1, hp.2.1⟩ hp.2.2)
    exact w_call (mi := mJ21_get) (As := [vR (gR h1 41 a0), vI i1]) (rest := [.int i4]) (len := 5) hk hR hL hsz hsB htr hRr (cok_F (n := 1) (x := ⟨"java/util/List", "get", "(I)Ljava/lang/Object;"⟩) (i := 8) (C := RJ21) (argsL := [.int i1]) hx hb hown hk hR f.1 (by decide) rfl ⟨by decide +kernel, by decide +kernel⟩ q1605 q1300 q1299 q1317 q1315 q1140 q1316 q1314 q1318 (by unfold nPar; decide +kernel) rfl dX2_touches_34) f.2 wJ21_get iJ21_get (by decide) (cat_sum _ (Nat.le_of_ble_eq_true rfl)) rfl (fun v h9 H locs hp hR hL => by obtain ⟨z9, rfl, f⟩ := hp; exact (hV _ _ _ _).mp f H locs _ hR hL (lv_p hl [0, 1, 2, 3, 5] rfl)) (fun q h9 H locs hp hR hL => x_out hown hlk hR hL (fun x9 h9 => by rw [htb] at h9; exact absurd h9 List.not_mem_nil) ⟨hp.1, hp.2.1⟩ hp.2.2)
theorem b_X2_touches_39 {G : Wd} {l : Launch} {d : Nat} {post : Option Value → VH → Prop} {xp : Nat → VH → Prop} {V : Nat → List (Nat × VT) → List Value → VH → Prop} {XV : Nat → List (Nat × VT) → Nat → VH → Prop} (C : Ctx G l d mX2_touches post xp V XV) {i1 i2 i3 i5 x0 : Int32} {a0 b1 : Nat} {h : VH}
    (f : (b1 = 0 ∨ kd h b1 = 9) ∧ ((kd h b1 = 9) ∧ D G l d mJ21_get [vR b1, vI i5] h (fun v h1 => ∃ ra1, v = some (vr ra1) ∧ ((ra1 = 0 ∨ kd h1 ra1 = 23) ∧ ((kd h1 ra1 = 23) ∧ D G l d mX12_isOf [vR ra1, vI i2, vI i3] h1 (fun v h2 => ∃ ri2, v = some (.int ri2) ∧ ((ri2 = 0 → (V 6 [(0, vR a0), (1, vI i1), (2, vI i2), (3, vI i3), (4, vI (x0 ||| (jI 0))), (5, vI (i5 + (jI 1)))] [] h2)) ∧ (¬ ri2 = 0 → (V 6 [(0, vR a0), (1, vI i1), (2, vI i2), (3, vI i3), (4, vI (x0 ||| (jshl (jI 1) i5))), (5, vI (i5 + (jI 1)))] [] h2)))) xp))) xp)) : V 39 [(0, vR a0), (1, vI i1), (2, vI i2), (3, vI i3), (5, vI i5)] [vr b1, .int x0] h := by
  obtain ⟨p, e, R, s, m, args, below, meth, c, Q, ⟨hx, hb, hr, hlk, hml, hown, hk, hRr, htb, hnm, hsB, htr, hQ⟩, hV, hX⟩ := C
  rw [hV]
  intro H locs ls hR hL hl
  have hb : c.code = cX2_touches := hb
  have hr : meth.sig.returnType = some .int := hr
  have hml : c.maxLocals = 6 := hml
  have hown : s.vm.findClass RX2 = some m.cls := hown
  have hl : lv_has ls 6 (lm [(0, vR a0), (1, vI i1), (2, vI i2), (3, vI i3), (5, vI i5)]) := hl
  have hsz : ls.size = c.maxLocals := hl.1.trans hml.symm
  subst hQ
  obtain ⟨f1, f⟩ := f
  refine w_castS (i := 8) (C := "java/util/LinkedList") hx hb hown hk hR f1 (by decide) rfl q677 dX2_touches_39 ?_
  refine lv_iload hx hb dX2_touches_42 (lv_v hl (k := 4) rfl rfl) ?_
  refine w_call (mi := mJ21_get) (As := [vR b1, vI i5]) (rest := [.int x0]) (len := 3) hk hR hL hsz hsB htr hRr (cok_V (i := 8) (C := RJ21) (argsL := [.int i5]) hx hb hown hk hR f.1 (by decide) rfl q1607 q1316 q3609 q1318 kJ21_get.1 kJ21_get.2 rfl dX2_touches_44) f.2 wJ21_get iJ21_get (by decide) (cat_sum _ (Nat.le_of_ble_eq_true rfl)) rfl (fun v h1 H locs f hR hL => ?_) (fun q h9 H locs hp hR hL => x_out hown hlk hR hL (fun x9 h9 => by rw [htb] at h9; exact absurd h9 List.not_mem_nil) ⟨hp.1, hp.2.1⟩ hp.2.2)
  obtain ⟨ra1, rfl, f⟩ := f
  show Wn p l e R s m args below meth c H locs _ (F0 m 47 ls [vr ra1, .int x0])
  obtain ⟨f1, f⟩ := f
  refine w_castS (i := 22) (C := "HintTeam$Held") hx hb hown hk hR f1 (by decide) rfl q1608 dX2_touches_47 ?_
  refine lv_iload_n hx hb dX2_touches_50 rfl (lv_v hl (k := 2) rfl rfl) ?_
  refine lv_iload_n hx hb dX2_touches_51 rfl (lv_v hl (k := 3) rfl rfl) ?_
  refine w_call (mi := mX12_isOf) (As := [vR ra1, vI i2, vI i3]) (rest := [.int x0]) (len := 3) hk hR hL hsz hsB htr hRr (cok_V (i := 22) (C := RX12) (argsL := [.int i2, .int i3]) hx hb hown hk hR f.1 (by decide) rfl q1609 q1610 q1611 q1612 kX12_isOf.1 kX12_isOf.2 rfl dX2_touches_52) f.2 wX12_isOf iX12_isOf (by decide) (cat_sum _ (Nat.le_of_ble_eq_true rfl)) rfl (fun v h2 H locs f hR hL => ?_) (fun q h9 H locs hp hR hL => x_out hown hlk hR hL (fun x9 h9 => by rw [htb] at h9; exact absurd h9 List.not_mem_nil) ⟨hp.1, hp.2.1⟩ hp.2.2)
  obtain ⟨ri2, rfl, f⟩ := f
  show Wn p l e R s m args below meth c H locs _ (F0 m 55 ls [.int ri2, .int x0])
  refine lv_if_eq (tgt := 65) hx hb dX2_touches_55 (by decide) (fun c9 => ?_) (fun c9 => ?_)
  · have f := f.1 c9
    refine w_iconst hx hb dX2_touches_65 ?_
    refine lv_ior hx hb dX2_touches_66 ?_
    refine w_istore (L' := [(4, vI (x0 ||| (jI 0))), (0, vR a0), (1, vI i1), (2, vI i2), (3, vI i3), (5, vI i5)]) hx hb dX2_touches_67 hl (by decide) rfl (fun ls hl => ?_)
    have hsz : ls.size = c.maxLocals := hl.1.trans hml.symm
    refine w_iinc (L' := [(5, vI (i5 + (jI 1))), (4, vI (x0 ||| (jI 0))), (0, vR a0), (1, vI i1), (2, vI i2), (3, vI i3)]) hx hb dX2_touches_69 hl (k := 5) rfl (by decide) rfl (fun ls hl => ?_)
    have hsz : ls.size = c.maxLocals := hl.1.trans hml.symm
    refine lv_goto (tgt := 6) hx hb dX2_touches_72 (by decide) ?_
    exact (hV _ _ _ _).mp f H locs _ hR hL (lv_p hl [2, 3, 4, 5, 1, 0] rfl)
  · have f := f.2 c9
    refine w_iconst hx hb dX2_touches_58 ?_
    refine lv_iload hx hb dX2_touches_59 (lv_v hl (k := 4) rfl rfl) ?_
    refine w_ishl hx hb dX2_touches_61 ?_
    refine lv_goto (tgt := 66) hx hb dX2_touches_62 (by decide) ?_
    refine lv_ior hx hb dX2_touches_66 ?_
    refine w_istore (L' := [(4, vI (x0 ||| (jshl (jI 1) i5))), (0, vR a0), (1, vI i1), (2, vI i2), (3, vI i3), (5, vI i5)]) hx hb dX2_touches_67 hl (by decide) rfl (fun ls hl => ?_)
    have hsz : ls.size = c.maxLocals := hl.1.trans hml.symm
    refine w_iinc (L' := [(5, vI (i5 + (jI 1))), (4, vI (x0 ||| (jshl (jI 1) i5))), (0, vR a0), (1, vI i1), (2, vI i2), (3, vI i3)]) hx hb dX2_touches_69 hl (k := 5) rfl (by decide) rfl (fun ls hl => ?_)
    have hsz : ls.size = c.maxLocals := hl.1.trans hml.symm
    refine lv_goto (tgt := 6) hx hb dX2_touches_72 (by decide) ?_
    exact (hV _ _ _ _).mp f H locs _ hR hL (lv_p hl [2, 3, 4, 5, 1, 0] rfl)
theorem b_X3_copiesOf_0 {G : Wd} {l : Launch} {d : Nat} {post : Option Value → VH → Prop} {xp : Nat → VH → Prop} {V : Nat → List (Nat × VT) → List Value → VH → Prop} {XV : Nat → List (Nat × VT) → Nat → VH → Prop} (C : Ctx G l d mX3_copiesOf post xp V XV) {i1 i2 : Int32} {a0 : Nat} {h : VH}
    (f : (kd h a0 = 3) ∧ (D G l d mJ19_valueOf [vI (((jI 10) * i1) + i2)] h (fun v h1 => ∃ ra1, v = some (vr ra1) ∧ ((kd h1 (gR h 88 a0) = 5) ∧ D G l d mJ4_get [vR (gR h 88 a0), vR ra1] h1 (fun v h2 => ∃ ra2, v = some (vr ra2) ∧ ((ra2 = 0 ∨ kd h2 ra2 = 8 ∨ kd h2 ra2 = 29) ∧ ((¬ ra2 = 0 → ((kd h2 ra2 = 8 ∨ kd h2 ra2 = 29) ∧ D G l d mJ19_intValue [vR ra2] h2 (fun v h3 => ∃ ri3, v = some (.int ri3) ∧ (post (some (.int ri3)) h3)) xp)) ∧ (ra2 = 0 → (post (some (.int (jI 0))) h2))))) xp)) xp)) : V 0 [(0, vR a0), (1, vI i1), (2, vI i2)] [] h := by
  obtain ⟨p, e, R, s, m, args, below, meth, c, Q, ⟨hx, hb, hr, hlk, hml, hown, hk, hRr, htb, hnm, hsB, htr, hQ⟩, hV, hX⟩ := C
  rw [hV]
  intro H locs ls hR hL hl
  have hb : c.code = cX3_copiesOf := hb
  have hr : meth.sig.returnType = some .int := hr
  have hml : c.maxLocals = 4 := hml
  have hown : s.vm.findClass RX3 = some m.cls := hown
  have hl : lv_has ls 4 (lm [(0, vR a0), (1, vI i1), (2, vI i2)]) := hl
  have hsz : ls.size = c.maxLocals := hl.1.trans hml.symm
  subst hQ
  refine w_aload_n hx hb dX3_copiesOf_0 rfl (lv_v hl (k := 0) rfl rfl) ?_
  obtain ⟨f1, f⟩ := f
  refine w_get (i := 2) (k := 8) (v := vr (gR h 88 a0)) hx hb hown hk hR clk_X3 f1 (by decide) (by decide) q321 (fun _ h9 => h9) rfl dX3_copiesOf_1 ?_
  refine w_bipush hx hb dX3_copiesOf_4 (by decide) ?_
  refine lv_iload_n hx hb dX3_copiesOf_6 rfl (lv_v hl (k := 1) rfl rfl) ?_
  refine lv_imul hx hb dX3_copiesOf_7 ?_
  refine lv_iload_n hx hb dX3_copiesOf_8 rfl (lv_v hl (k := 2) rfl rfl) ?_
  refine lv_iadd hx hb dX3_copiesOf_9 ?_
  refine w_call (mi := mJ19_valueOf) (As := [vI (((jI 10) * i1) + i2)]) (rest := [vr (gR h 88 a0)]) (len := 3) hk hR hL hsz hsB htr hRr (cok_S (argsL := [.int (((jI 10) * i1) + i2)]) hx hb hown hk (q1707) q1708 q172 q1709 kJ19_valueOf.1 kJ19_valueOf.2 rfl dX3_copiesOf_10) f wJ19_valueOf iJ19_valueOf (by decide) (cat_sum _ (Nat.le_of_ble_eq_true rfl)) rfl (fun v h1 H locs f hR hL => ?_) (fun q h9 H locs hp hR hL => x_out hown hlk hR hL (fun x9 h9 => by rw [htb] at h9; exact absurd h9 List.not_mem_nil) ⟨hp.1, hp.2.1⟩ hp.2.2)
  obtain ⟨ra1, rfl, f⟩ := f
  show Wn p l e R s m args below meth c H locs _ (F0 m 13 ls [vr ra1, vr (gR h 88 a0)])
  refine w_call (mi := mJ4_get) (As := [vR (gR h 88 a0), vR ra1]) (rest := []) (len := 3) hk hR hL hsz hsB htr hRr (cok_V (i := 4) (C := RJ4) (argsL := [vr ra1]) hx hb hown hk hR f.1 (by decide) rfl q1727 q1728 q1729 q1730 kJ4_get.1 kJ4_get.2 rfl dX3_copiesOf_13) f.2 wJ4_get iJ4_get (by decide) (cat_sum _ (Nat.le_of_ble_eq_true rfl)) rfl (fun v h2 H locs f hR hL => ?_) (fun q h9 H locs hp hR hL => x_out hown hlk hR hL (fun x9 h9 => by rw [htb] at h9; exact absurd h9 List.not_mem_nil) ⟨hp.1, hp.2.1⟩ hp.2.2)
  obtain ⟨ra2, rfl, f⟩ := f
  show Wn p l e R s m args below meth c H locs _ (F0 m 16 ls [vr ra2])
  obtain ⟨f1, f⟩ := f
  refine or_k f1 (fun q9 kk => w_castS (i := 7) (C := "java/lang/Integer") hx hb hown hk hR (Or.inl q9) (by decide) rfl q1942 dX3_copiesOf_16 kk) (fun q9 kk => or_k q9 (fun q9 kk => w_castS (i := 7) (C := "java/lang/Integer") hx hb hown hk hR (Or.inr q9) (by decide) rfl q1942 dX3_copiesOf_16 kk) (fun q9 kk => w_castS (i := 28) (C := "java/lang/Integer") hx hb hown hk hR (Or.inr q9) (by decide) rfl q1942 dX3_copiesOf_16 kk) kk) ?_
  refine w_astore_n' (L' := [(3, vR ra2), (0, vR a0), (1, vI i1), (2, vI i2)]) hx hb dX3_copiesOf_19 rfl hl (by decide) rfl (fun ls hl => ?_)
  have hsz : ls.size = c.maxLocals := hl.1.trans hml.symm
  refine w_aload_n hx hb dX3_copiesOf_20 rfl (lv_v hl (k := 0) rfl rfl) ?_
  refine w_ifnonnull (tgt := 28) hx hb dX3_copiesOf_21 (by decide) (fun c9 => ?_) (fun c9 => ?_)
  · have f := f.1 c9
    refine w_aload_n hx hb dX3_copiesOf_28 rfl (lv_v hl (k := 0) rfl rfl) ?_
    refine w_call (mi := mJ19_intValue) (As := [vR ra2]) (rest := []) (len := 3) hk hR hL hsz hsB htr hRr (Or.elim f.1 (fun q9 => cok_V (i := 7) (C := RJ19) (argsL := []) hx hb hown hk hR q9 (by decide) rfl q1943 q1944 q1945 q1946 kJ19_intValue.1 kJ19_intValue.2 rfl dX3_copiesOf_29) (fun q9 => cok_V (i := 28) (C := RJ19) (argsL := []) hx hb hown hk hR q9 (by decide) rfl q1943 q1944 q1945 q1946 kJ19_intValue.1 kJ19_intValue.2 rfl dX3_copiesOf_29)) f.2 wJ19_intValue iJ19_intValue (by decide) (cat_sum _ (Nat.le_of_ble_eq_true rfl)) rfl (fun v h3 H locs f hR hL => ?_) (fun q h9 H locs hp hR hL => x_out hown hlk hR hL (fun x9 h9 => by rw [htb] at h9; exact absurd h9 List.not_mem_nil) ⟨hp.1, hp.2.1⟩ hp.2.2)
    obtain ⟨ri3, rfl, f⟩ := f
    show Wn p l e R s m args below meth c H locs _ (F0 m 32 ls [.int ri3])
    exact w_iret hx hb hr hlk hR hL dX3_copiesOf_32 f
  · have f := f.2 c9
    refine w_iconst hx hb dX3_copiesOf_24 ?_
    refine lv_goto (tgt := 32) hx hb dX3_copiesOf_25 (by decide) ?_
    exact w_iret hx hb hr hlk hR hL dX3_copiesOf_32 f
theorem t_X3_copiesOf {G : Wd} {l : Launch} {d : Nat} {post : Option Value → VH → Prop} {xp : Nat → VH → Prop} {i1 i2 : Int32} {a0 : Nat} {h : VH} (hd : 9 ≤ d)
    (f : (kd h a0 = 3) ∧ (D G l (d - 1) mJ19_valueOf [vI (((jI 10) * i1) + i2)] h (fun v h1 => ∃ ra1, v = some (vr ra1) ∧ ((kd h1 (gR h 88 a0) = 5) ∧ D G l (d - 1) mJ4_get [vR (gR h 88 a0), vR ra1] h1 (fun v h2 => ∃ ra2, v = some (vr ra2) ∧ ((ra2 = 0 ∨ kd h2 ra2 = 8 ∨ kd h2 ra2 = 29) ∧ ((¬ ra2 = 0 → ((kd h2 ra2 = 8 ∨ kd h2 ra2 = 29) ∧ D G l (d - 1) mJ19_intValue [vR ra2] h2 (fun v h3 => ∃ ri3, v = some (.int ri3) ∧ (post (some (.int ri3)) h3)) xp)) ∧ (ra2 = 0 → (post (some (.int (jI 0))) h2))))) xp)) xp)) : D G l d mX3_copiesOf [vR a0, vI i1, vI i2] h post xp := D_in hd rfl rfl fun V XV C => b_X3_copiesOf_0 C f
theorem b_X3_counts_0 {G : Wd} {l : Launch} {d : Nat} {post : Option Value → VH → Prop} {xp : Nat → VH → Prop} {V : Nat → List (Nat × VT) → List Value → VH → Prop} {XV : Nat → List (Nat × VT) → Nat → VH → Prop} (C : Ctx G l d mX3_counts post xp V XV) {a0 : Nat} {h : VH}
    (f : (kd h a0 = 3) ∧ (((kd h (gR h 87 a0) = 4) ∧ D G l d mJ2_iterator [vR (gR h 87 a0)] h (fun v h9 => ∃ b9, v = some (vr b9) ∧ V 9 [(0, vR a0)] [vr b9] h9) xp) ∨ ((kd h (gR h 87 a0) = 9) ∧ D G l d mJ20_iterator [vR (gR h 87 a0)] h (fun v h9 => ∃ b9, v = some (vr b9) ∧ V 9 [(0, vR a0)] [vr b9] h9) xp))) : V 0 [(0, vR a0)] [] h := by
  obtain ⟨p, e, R, s, m, args, below, meth, c, Q, ⟨hx, hb, hr, hlk, hml, hown, hk, hRr, htb, hnm, hsB, htr, hQ⟩, hV, hX⟩ := C
  rw [hV]
  intro H locs ls hR hL hl
  have hb : c.code = cX3_counts := hb
  have hr : meth.sig.returnType = none := hr
  have hml : c.maxLocals = 4 := hml
  have hown : s.vm.findClass RX3 = some m.cls := hown
  have hl : lv_has ls 4 (lm [(0, vR a0)]) := hl
  have hsz : ls.size = c.maxLocals := hl.1.trans hml.symm
  subst hQ
  refine w_aload_n hx hb dX3_counts_0 rfl (lv_v hl (k := 0) rfl rfl) ?_
  obtain ⟨f1, f⟩ := f
  refine w_get (i := 2) (k := 7) (v := vr (gR h 87 a0)) hx hb hown hk hR clk_X3 f1 (by decide) (by decide) q316 (fun _ h9 => h9) rfl dX3_counts_1 ?_
  rcases f with f | f
  · exact w_call (mi := mJ2_iterator) (As := [vR (gR h 87 a0)]) (rest := []) (len := 5) hk hR hL hsz hsB htr hRr (cok_F (n := 0) (x := ⟨"java/util/List", "iterator", "()Ljava/util/Iterator;"⟩) (i := 3) (C := RJ2) (argsL := []) hx hb hown hk hR f.1 (by decide) rfl ⟨by decide +kernel, by decide +kernel⟩ q1384 q1386 q1385 q1390 q1388 q1134 q1389 q1387 q1391 (by unfold nPar; decide +kernel) rfl dX3_counts_4) f.2 wJ2_iterator iJ2_iterator (by decide) (cat_sum _ (Nat.le_of_ble_eq_true rfl)) rfl (fun v h9 H locs hp hR hL => by obtain ⟨z9, rfl, f⟩ := hp; exact (hV _ _ _ _).mp f H locs _ hR hL (lv_p hl [0] rfl)) (fun q h9 H locs hp hR hL => x_out hown hlk hR hL (fun x9 h9 => by rw [htb] at h9; exact absurd h9 List.not_mem_nil) ⟨hp.1, hp.2.1⟩ hp.2.2)
  exact w_call (mi := mJ20_iterator) (As := [vR (gR h 87 a0)]) (rest := []) (len := 5) hk hR hL hsz hsB htr hRr (cok_F (n := 0) (x := ⟨"java/util/List", "iterator", "()Ljava/util/Iterator;"⟩) (i := 8) (C := RJ21) (argsL := []) hx hb hown hk hR f.1 (by decide) rfl ⟨by decide +kernel, by decide +kernel⟩ q1384 q1386 q1385 q1416 q1414 q1140 q1415 q1413 q1417 (by unfold nPar; decide +kernel) rfl dX3_counts_4) f.2 wJ20_iterator iJ20_iterator (by decide) (cat_sum _ (Nat.le_of_ble_eq_true rfl)) rfl (fun v h9 H locs hp hR hL => by obtain ⟨z9, rfl, f⟩ := hp; exact (hV _ _ _ _).mp f H locs _ hR hL (lv_p hl [0] rfl)) (fun q h9 H locs hp hR hL => x_out hown hlk hR hL (fun x9 h9 => by rw [htb] at h9; exact absurd h9 List.not_mem_nil) ⟨hp.1, hp.2.1⟩ hp.2.2)
theorem b_X3_counts_9 {G : Wd} {l : Launch} {d : Nat} {post : Option Value → VH → Prop} {xp : Nat → VH → Prop} {V : Nat → List (Nat × VT) → List Value → VH → Prop} {XV : Nat → List (Nat × VT) → Nat → VH → Prop} (C : Ctx G l d mX3_counts post xp V XV) {a0 b0 : Nat} {h : VH}
    (f : V 10 [(0, vR a0), (1, vR b0)] [] h) : V 9 [(0, vR a0)] [vr b0] h := by
  obtain ⟨p, e, R, s, m, args, below, meth, c, Q, ⟨hx, hb, hr, hlk, hml, hown, hk, hRr, htb, hnm, hsB, htr, hQ⟩, hV, hX⟩ := C
  rw [hV]
  intro H locs ls hR hL hl
  have hb : c.code = cX3_counts := hb
  have hr : meth.sig.returnType = none := hr
  have hml : c.maxLocals = 4 := hml
  have hown : s.vm.findClass RX3 = some m.cls := hown
  have hl : lv_has ls 4 (lm [(0, vR a0)]) := hl
  have hsz : ls.size = c.maxLocals := hl.1.trans hml.symm
  subst hQ
  refine w_astore_n' (L' := [(1, vR b0), (0, vR a0)]) hx hb dX3_counts_9 rfl hl (by decide) rfl (fun ls hl => ?_)
  have hsz : ls.size = c.maxLocals := hl.1.trans hml.symm
  exact (hV _ _ _ _).mp f H locs _ hR hL (lv_p hl [1, 0] rfl)
theorem b_X3_counts_10 {G : Wd} {l : Launch} {d : Nat} {post : Option Value → VH → Prop} {xp : Nat → VH → Prop} {V : Nat → List (Nat × VT) → List Value → VH → Prop} {XV : Nat → List (Nat × VT) → Nat → VH → Prop} (C : Ctx G l d mX3_counts post xp V XV) {a0 a1 : Nat} {h : VH}
    (f : ((kd h a1 = 19) ∧ D G l d mJ28_hasNext [vR a1] h (fun v h9 => ∃ x9, v = some (.int x9) ∧ V 16 [(0, vR a0), (1, vR a1)] [.int x9] h9) xp) ∨ ((kd h a1 = 20) ∧ D G l d mJ31_hasNext [vR a1] h (fun v h9 => ∃ x9, v = some (.int x9) ∧ V 16 [(0, vR a0), (1, vR a1)] [.int x9] h9) xp) ∨ ((kd h a1 = 25) ∧ D G l d mX14_hasNext [vR a1] h (fun v h9 => ∃ x9, v = some (.int x9) ∧ V 16 [(0, vR a0), (1, vR a1)] [.int x9] h9) xp)) : V 10 [(0, vR a0), (1, vR a1)] [] h := by
  obtain ⟨p, e, R, s, m, args, below, meth, c, Q, ⟨hx, hb, hr, hlk, hml, hown, hk, hRr, htb, hnm, hsB, htr, hQ⟩, hV, hX⟩ := C
  rw [hV]
  intro H locs ls hR hL hl
  have hb : c.code = cX3_counts := hb
  have hr : meth.sig.returnType = none := hr
  have hml : c.maxLocals = 4 := hml
  have hown : s.vm.findClass RX3 = some m.cls := hown
  have hl : lv_has ls 4 (lm [(0, vR a0), (1, vR a1)]) := hl
  have hsz : ls.size = c.maxLocals := hl.1.trans hml.symm
  subst hQ
  refine w_aload_n hx hb dX3_counts_10 rfl (lv_v hl (k := 1) rfl rfl) ?_
  rcases f with f | f
  · exact w_call (mi := mJ28_hasNext) (As := [vR a1]) (rest := []) (len := 5) hk hR hL hsz hsB htr hRr (cok_F (n := 0) (x := ⟨"java/util/Iterator", "hasNext", "()Z"⟩) (i := 18) (C := RJ28) (argsL := []) hx hb hown hk hR f.1 (by decide) rfl ⟨by decide +kernel, by decide +kernel⟩ q1492 q1494 q1493 q1516 q1514 q1512 q1515 q1513 q1517 (by unfold nPar; decide +kernel) rfl dX3_counts_11) f.2 wJ28_hasNext iJ28_hasNext (by decide) (cat_sum _ (Nat.le_of_ble_eq_true rfl)) rfl (fun v h9 H locs hp hR hL => by obtain ⟨z9, rfl, f⟩ := hp; exact (hV _ _ _ _).mp f H locs _ hR hL (lv_p hl [0, 1] rfl)) (fun q h9 H locs hp hR hL => x_out hown hlk hR hL (fun x9 h9 => by rw [htb] at h9; exact absurd h9 List.not_mem_nil) ⟨hp.1, hp.2.1⟩ hp.2.2)
  rcases f with f | f
  · exact w_call (mi := mJ31_hasNext) (As := [vR a1]) (rest := []) (len := 5) hk hR hL hsz hsB htr hRr (cok_F (n := 0) (x := ⟨"java/util/Iterator", "hasNext", "()Z"⟩) (i := 19) (C := RJ31) (argsL := []) hx hb hown hk hR f.1 (by decide) rfl ⟨by decide +kernel, by decide +kernel⟩ q1492 q1494 q1493 q1525 q1523 q1521 q1524 q1522 q1526 (by unfold nPar; decide +kernel) rfl dX3_counts_11) f.2 wJ31_hasNext iJ31_hasNext (by decide) (cat_sum _ (Nat.le_of_ble_eq_true rfl)) rfl (fun v h9 H locs hp hR hL => by obtain ⟨z9, rfl, f⟩ := hp; exact (hV _ _ _ _).mp f H locs _ hR hL (lv_p hl [0, 1] rfl)) (fun q h9 H locs hp hR hL => x_out hown hlk hR hL (fun x9 h9 => by rw [htb] at h9; exact absurd h9 List.not_mem_nil) ⟨hp.1, hp.2.1⟩ hp.2.2)
  exact w_call (mi := mX14_hasNext) (As := [vR a1]) (rest := []) (len := 5) hk hR hL hsz hsB htr hRr (cok_F (n := 0) (x := ⟨"java/util/Iterator", "hasNext", "()Z"⟩) (i := 24) (C := RX14) (argsL := []) hx hb hown hk hR f.1 (by decide) rfl ⟨by decide +kernel, by decide +kernel⟩ q1492 q1494 q1493 q1499 q1497 q1495 q1498 q1496 q1500 (by unfold nPar; decide +kernel) rfl dX3_counts_11) f.2 wX14_hasNext iX14_hasNext (by decide) (cat_sum _ (Nat.le_of_ble_eq_true rfl)) rfl (fun v h9 H locs hp hR hL => by obtain ⟨z9, rfl, f⟩ := hp; exact (hV _ _ _ _).mp f H locs _ hR hL (lv_p hl [0, 1] rfl)) (fun q h9 H locs hp hR hL => x_out hown hlk hR hL (fun x9 h9 => by rw [htb] at h9; exact absurd h9 List.not_mem_nil) ⟨hp.1, hp.2.1⟩ hp.2.2)
theorem b_X3_counts_16 {G : Wd} {l : Launch} {d : Nat} {post : Option Value → VH → Prop} {xp : Nat → VH → Prop} {V : Nat → List (Nat × VT) → List Value → VH → Prop} {XV : Nat → List (Nat × VT) → Nat → VH → Prop} (C : Ctx G l d mX3_counts post xp V XV) {x0 : Int32} {a0 a1 : Nat} {h : VH}
    (f : (x0 = 0 → (post none h)) ∧ (¬ x0 = 0 → (((kd h a1 = 19) ∧ D G l d mJ28_next [vR a1] h (fun v h9 => ∃ b9, v = some (vr b9) ∧ V 25 [(0, vR a0), (1, vR a1)] [vr b9] h9) xp) ∨ ((kd h a1 = 20) ∧ D G l d mJ31_next [vR a1] h (fun v h9 => ∃ b9, v = some (vr b9) ∧ V 25 [(0, vR a0), (1, vR a1)] [vr b9] h9) xp) ∨ ((kd h a1 = 25) ∧ D G l d mX14_next [vR a1] h (fun v h9 => ∃ b9, v = some (vr b9) ∧ V 25 [(0, vR a0), (1, vR a1)] [vr b9] h9) xp)))) : V 16 [(0, vR a0), (1, vR a1)] [.int x0] h := by
  obtain ⟨p, e, R, s, m, args, below, meth, c, Q, ⟨hx, hb, hr, hlk, hml, hown, hk, hRr, htb, hnm, hsB, htr, hQ⟩, hV, hX⟩ := C
  rw [hV]
  intro H locs ls hR hL hl
  have hb : c.code = cX3_counts := hb
  have hr : meth.sig.returnType = none := hr
  have hml : c.maxLocals = 4 := hml
  have hown : s.vm.findClass RX3 = some m.cls := hown
  have hl : lv_has ls 4 (lm [(0, vR a0), (1, vR a1)]) := hl
  have hsz : ls.size = c.maxLocals := hl.1.trans hml.symm
  subst hQ
  refine lv_if_eq (tgt := 85) hx hb dX3_counts_16 (by decide) (fun c9 => ?_) (fun c9 => ?_)
  · have f := f.1 c9
    exact w_vret hx hb hr hlk hR hL dX3_counts_85 f
  · have f := f.2 c9
    refine w_aload_n hx hb dX3_counts_19 rfl (lv_v hl (k := 1) rfl rfl) ?_
    rcases f with f | f
    · exact w_call (mi := mJ28_next) (As := [vR a1]) (rest := []) (len := 5) hk hR hL hsz hsB htr hRr (cok_F (n := 0) (x := ⟨"java/util/Iterator", "next", "()Ljava/lang/Object;"⟩) (i := 18) (C := RJ28) (argsL := []) hx hb hown hk hR f.1 (by decide) rfl ⟨by decide +kernel, by decide +kernel⟩ q1528 q1530 q1529 q1682 q1680 q1512 q1681 q1679 q1683 (by unfold nPar; decide +kernel) rfl dX3_counts_20) f.2 wJ28_next iJ28_next (by decide) (cat_sum _ (Nat.le_of_ble_eq_true rfl)) rfl (fun v h9 H locs hp hR hL => by obtain ⟨z9, rfl, f⟩ := hp; exact (hV _ _ _ _).mp f H locs _ hR hL (lv_p hl [0, 1] rfl)) (fun q h9 H locs hp hR hL => x_out hown hlk hR hL (fun x9 h9 => by rw [htb] at h9; exact absurd h9 List.not_mem_nil) ⟨hp.1, hp.2.1⟩ hp.2.2)
    rcases f with f | f
    · exact w_call (mi := mJ31_next) (As := [vR a1]) (rest := []) (len := 5) hk hR hL hsz hsB htr hRr (cok_F (n := 0) (x := ⟨"java/util/Iterator", "next", "()Ljava/lang/Object;"⟩) (i := 19) (C := RJ31) (argsL := []) hx hb hown hk hR f.1 (by decide) rfl ⟨by decide +kernel, by decide +kernel⟩ q1528 q1530 q1529 q1695 q1693 q1521 q1694 q1692 q1696 (by unfold nPar; decide +kernel) rfl dX3_counts_20) f.2 wJ31_next iJ31_next (by decide) (cat_sum _ (Nat.le_of_ble_eq_true rfl)) rfl (fun v h9 H locs hp hR hL => by obtain ⟨z9, rfl, f⟩ := hp; exact (hV _ _ _ _).mp f H locs _ hR hL (lv_p hl [0, 1] rfl)) (fun q h9 H locs hp hR hL => x_out hown hlk hR hL (fun x9 h9 => by rw [htb] at h9; exact absurd h9 List.not_mem_nil) ⟨hp.1, hp.2.1⟩ hp.2.2)
    exact w_call (mi := mX14_next) (As := [vR a1]) (rest := []) (len := 5) hk hR hL hsz hsB htr hRr (cok_F (n := 0) (x := ⟨"java/util/Iterator", "next", "()Ljava/lang/Object;"⟩) (i := 24) (C := RX14) (argsL := []) hx hb hown hk hR f.1 (by decide) rfl ⟨by decide +kernel, by decide +kernel⟩ q1528 q1530 q1529 q1534 q1532 q1495 q1533 q1531 q1535 (by unfold nPar; decide +kernel) rfl dX3_counts_20) f.2 wX14_next iX14_next (by decide) (cat_sum _ (Nat.le_of_ble_eq_true rfl)) rfl (fun v h9 H locs hp hR hL => by obtain ⟨z9, rfl, f⟩ := hp; exact (hV _ _ _ _).mp f H locs _ hR hL (lv_p hl [0, 1] rfl)) (fun q h9 H locs hp hR hL => x_out hown hlk hR hL (fun x9 h9 => by rw [htb] at h9; exact absurd h9 List.not_mem_nil) ⟨hp.1, hp.2.1⟩ hp.2.2)
theorem b_X3_counts_25 {G : Wd} {l : Launch} {d : Nat} {post : Option Value → VH → Prop} {xp : Nat → VH → Prop} {V : Nat → List (Nat × VT) → List Value → VH → Prop} {XV : Nat → List (Nat × VT) → Nat → VH → Prop} (C : Ctx G l d mX3_counts post xp V XV) {a0 a1 b0 : Nat} {h : VH}
    (f : (b0 = 0 ∨ kd h b0 = 17) ∧ ((kd h a0 = 3) ∧ ((kd h b0 = 17) ∧ D G l d mX10_told [vR b0] h (fun v h1 => ∃ ri1, v = some (.int ri1) ∧ (D G l d mJ19_valueOf [vI ri1] h1 (fun v h2 => ∃ ra2, v = some (vr ra2) ∧ ((kd h2 (gR h 88 a0) = 5) ∧ D G l d mJ4_get [vR (gR h 88 a0), vR ra2] h2 (fun v h3 => ∃ ra3, v = some (vr ra3) ∧ ((ra3 = 0 ∨ kd h3 ra3 = 8 ∨ kd h3 ra3 = 29) ∧ ((kd h3 a0 = 3) ∧ ((kd h3 b0 = 17) ∧ D G l d mX10_told [vR b0] h3 (fun v h4 => ∃ ri4, v = some (.int ri4) ∧ (D G l d mJ19_valueOf [vI ri4] h4 (fun v h5 => ∃ ra5, v = some (vr ra5) ∧ ((¬ ra3 = 0 → ((kd h5 ra3 = 8 ∨ kd h5 ra3 = 29) ∧ D G l d mJ19_intValue [vR ra3] h5 (fun v h6 => ∃ ri6, v = some (.int ri6) ∧ (D G l d mJ19_valueOf [vI (ri6 + (jI 1))] h6 (fun v h7 => ∃ ra7, v = some (vr ra7) ∧ ((kd h7 (gR h3 88 a0) = 5) ∧ D G l d mJ4_put [vR (gR h3 88 a0), vR ra5, vR ra7] h7 (fun v h8 => ∃ ra8, v = some (vr ra8) ∧ ((ra8 = 0 ∨ kd h8 ra8 = 8 ∨ kd h8 ra8 = 29) ∧ (V 10 [(0, vR a0), (1, vR a1)] [] h8))) xp)) xp)) xp)) ∧ (ra3 = 0 → (D G l d mJ19_valueOf [vI (jI 1)] h5 (fun v h9 => ∃ ra9, v = some (vr ra9) ∧ ((kd h9 (gR h3 88 a0) = 5) ∧ D G l d mJ4_put [vR (gR h3 88 a0), vR ra5, vR ra9] h9 (fun v h10 => ∃ ra10, v = some (vr ra10) ∧ ((ra10 = 0 ∨ kd h10 ra10 = 8 ∨ kd h10 ra10 = 29) ∧ (V 10 [(0, vR a0), (1, vR a1)] [] h10))) xp)) xp)))) xp)) xp)))) xp)) xp)) xp))) : V 25 [(0, vR a0), (1, vR a1)] [vr b0] h := by
  obtain ⟨p, e, R, s, m, args, below, meth, c, Q, ⟨hx, hb, hr, hlk, hml, hown, hk, hRr, htb, hnm, hsB, htr, hQ⟩, hV, hX⟩ := C
  rw [hV]
  intro H locs ls hR hL hl
  have hb : c.code = cX3_counts := hb
  have hr : meth.sig.returnType = none := hr
  have hml : c.maxLocals = 4 := hml
  have hown : s.vm.findClass RX3 = some m.cls := hown
  have hl : lv_has ls 4 (lm [(0, vR a0), (1, vR a1)]) := hl
  have hsz : ls.size = c.maxLocals := hl.1.trans hml.symm
  subst hQ
  obtain ⟨f1, f⟩ := f
  refine w_castS (i := 16) (C := "HintTeam$Card") hx hb hown hk hR f1 (by decide) rfl q1702 dX3_counts_25 ?_
  refine w_astore_n' (L' := [(2, vR b0), (0, vR a0), (1, vR a1)]) hx hb dX3_counts_28 rfl hl (by decide) rfl (fun ls hl => ?_)
  have hsz : ls.size = c.maxLocals := hl.1.trans hml.symm
  refine w_aload_n hx hb dX3_counts_29 rfl (lv_v hl (k := 1) rfl rfl) ?_
  obtain ⟨f1, f⟩ := f
  refine w_get (i := 2) (k := 8) (v := vr (gR h 88 a0)) hx hb hown hk hR clk_X3 f1 (by decide) (by decide) q321 (fun _ h9 => h9) rfl dX3_counts_30 ?_
  refine w_aload_n hx hb dX3_counts_33 rfl (lv_v hl (k := 0) rfl rfl) ?_
  refine w_call (mi := mX10_told) (As := [vR b0]) (rest := [vr (gR h 88 a0)]) (len := 3) hk hR hL hsz hsB htr hRr (cok_V (i := 16) (C := RX10) (argsL := []) hx hb hown hk hR f.1 (by decide) rfl q1703 q1704 q1705 q1706 kX10_told.1 kX10_told.2 rfl dX3_counts_34) f.2 wX10_told iX10_told (by decide) (cat_sum _ (Nat.le_of_ble_eq_true rfl)) rfl (fun v h1 H locs f hR hL => ?_) (fun q h9 H locs hp hR hL => x_out hown hlk hR hL (fun x9 h9 => by rw [htb] at h9; exact absurd h9 List.not_mem_nil) ⟨hp.1, hp.2.1⟩ hp.2.2)
  obtain ⟨ri1, rfl, f⟩ := f
  show Wn p l e R s m args below meth c H locs _ (F0 m 37 ls [.int ri1, vr (gR h 88 a0)])
  refine w_call (mi := mJ19_valueOf) (As := [vI ri1]) (rest := [vr (gR h 88 a0)]) (len := 3) hk hR hL hsz hsB htr hRr (cok_S (argsL := [.int ri1]) hx hb hown hk (q1707) q1708 q172 q1709 kJ19_valueOf.1 kJ19_valueOf.2 rfl dX3_counts_37) f wJ19_valueOf iJ19_valueOf (by decide) (cat_sum _ (Nat.le_of_ble_eq_true rfl)) rfl (fun v h2 H locs f hR hL => ?_) (fun q h9 H locs hp hR hL => x_out hown hlk hR hL (fun x9 h9 => by rw [htb] at h9; exact absurd h9 List.not_mem_nil) ⟨hp.1, hp.2.1⟩ hp.2.2)
  obtain ⟨ra2, rfl, f⟩ := f
  show Wn p l e R s m args below meth c H locs _ (F0 m 40 ls [vr ra2, vr (gR h 88 a0)])
  refine w_call (mi := mJ4_get) (As := [vR (gR h 88 a0), vR ra2]) (rest := []) (len := 3) hk hR hL hsz hsB htr hRr (cok_V (i := 4) (C := RJ4) (argsL := [vr ra2]) hx hb hown hk hR f.1 (by decide) rfl q1727 q1728 q1729 q1730 kJ4_get.1 kJ4_get.2 rfl dX3_counts_40) f.2 wJ4_get iJ4_get (by decide) (cat_sum _ (Nat.le_of_ble_eq_true rfl)) rfl (fun v h3 H locs f hR hL => ?_) (fun q h9 H locs hp hR hL => x_out hown hlk hR hL (fun x9 h9 => by rw [htb] at h9; exact absurd h9 List.not_mem_nil) ⟨hp.1, hp.2.1⟩ hp.2.2)
  obtain ⟨ra3, rfl, f⟩ := f
  show Wn p l e R s m args below meth c H locs _ (F0 m 43 ls [vr ra3])
  obtain ⟨f1, f⟩ := f
  refine or_k f1 (fun q9 kk => w_castS (i := 7) (C := "java/lang/Integer") hx hb hown hk hR (Or.inl q9) (by decide) rfl q1942 dX3_counts_43 kk) (fun q9 kk => or_k q9 (fun q9 kk => w_castS (i := 7) (C := "java/lang/Integer") hx hb hown hk hR (Or.inr q9) (by decide) rfl q1942 dX3_counts_43 kk) (fun q9 kk => w_castS (i := 28) (C := "java/lang/Integer") hx hb hown hk hR (Or.inr q9) (by decide) rfl q1942 dX3_counts_43 kk) kk) ?_
  refine w_astore_n' (L' := [(3, vR ra3), (2, vR b0), (0, vR a0), (1, vR a1)]) hx hb dX3_counts_46 rfl hl (by decide) rfl (fun ls hl => ?_)
  have hsz : ls.size = c.maxLocals := hl.1.trans hml.symm
  refine w_aload_n hx hb dX3_counts_47 rfl (lv_v hl (k := 2) rfl rfl) ?_
  obtain ⟨f1, f⟩ := f
  refine w_get (i := 2) (k := 8) (v := vr (gR h3 88 a0)) hx hb hown hk hR clk_X3 f1 (by decide) (by decide) q321 (fun _ h9 => h9) rfl dX3_counts_48 ?_
  refine w_aload_n hx hb dX3_counts_51 rfl (lv_v hl (k := 1) rfl rfl) ?_
  refine w_call (mi := mX10_told) (As := [vR b0]) (rest := [vr (gR h3 88 a0)]) (len := 3) hk hR hL hsz hsB htr hRr (cok_V (i := 16) (C := RX10) (argsL := []) hx hb hown hk hR f.1 (by decide) rfl q1703 q1704 q1705 q1706 kX10_told.1 kX10_told.2 rfl dX3_counts_52) f.2 wX10_told iX10_told (by decide) (cat_sum _ (Nat.le_of_ble_eq_true rfl)) rfl (fun v h4 H locs f hR hL => ?_) (fun q h9 H locs hp hR hL => x_out hown hlk hR hL (fun x9 h9 => by rw [htb] at h9; exact absurd h9 List.not_mem_nil) ⟨hp.1, hp.2.1⟩ hp.2.2)
  obtain ⟨ri4, rfl, f⟩ := f
  show Wn p l e R s m args below meth c H locs _ (F0 m 55 ls [.int ri4, vr (gR h3 88 a0)])
  refine w_call (mi := mJ19_valueOf) (As := [vI ri4]) (rest := [vr (gR h3 88 a0)]) (len := 3) hk hR hL hsz hsB htr hRr (cok_S (argsL := [.int ri4]) hx hb hown hk (q1707) q1708 q172 q1709 kJ19_valueOf.1 kJ19_valueOf.2 rfl dX3_counts_55) f wJ19_valueOf iJ19_valueOf (by decide) (cat_sum _ (Nat.le_of_ble_eq_true rfl)) rfl (fun v h5 H locs f hR hL => ?_) (fun q h9 H locs hp hR hL => x_out hown hlk hR hL (fun x9 h9 => by rw [htb] at h9; exact absurd h9 List.not_mem_nil) ⟨hp.1, hp.2.1⟩ hp.2.2)
  obtain ⟨ra5, rfl, f⟩ := f
  show Wn p l e R s m args below meth c H locs _ (F0 m 58 ls [vr ra5, vr (gR h3 88 a0)])
  refine w_aload_n hx hb dX3_counts_58 rfl (lv_v hl (k := 0) rfl rfl) ?_
  refine w_ifnonnull (tgt := 66) hx hb dX3_counts_59 (by decide) (fun c9 => ?_) (fun c9 => ?_)
  · have f := f.1 c9
    refine w_aload_n hx hb dX3_counts_66 rfl (lv_v hl (k := 0) rfl rfl) ?_
    refine w_call (mi := mJ19_intValue) (As := [vR ra3]) (rest := [vr ra5, vr (gR h3 88 a0)]) (len := 3) hk hR hL hsz hsB htr hRr (Or.elim f.1 (fun q9 => cok_V (i := 7) (C := RJ19) (argsL := []) hx hb hown hk hR q9 (by decide) rfl q1943 q1944 q1945 q1946 kJ19_intValue.1 kJ19_intValue.2 rfl dX3_counts_67) (fun q9 => cok_V (i := 28) (C := RJ19) (argsL := []) hx hb hown hk hR q9 (by decide) rfl q1943 q1944 q1945 q1946 kJ19_intValue.1 kJ19_intValue.2 rfl dX3_counts_67)) f.2 wJ19_intValue iJ19_intValue (by decide) (cat_sum _ (Nat.le_of_ble_eq_true rfl)) rfl (fun v h6 H locs f hR hL => ?_) (fun q h9 H locs hp hR hL => x_out hown hlk hR hL (fun x9 h9 => by rw [htb] at h9; exact absurd h9 List.not_mem_nil) ⟨hp.1, hp.2.1⟩ hp.2.2)
    obtain ⟨ri6, rfl, f⟩ := f
    show Wn p l e R s m args below meth c H locs _ (F0 m 70 ls [.int ri6, vr ra5, vr (gR h3 88 a0)])
    refine w_iconst hx hb dX3_counts_70 ?_
    refine lv_iadd hx hb dX3_counts_71 ?_
    refine w_call (mi := mJ19_valueOf) (As := [vI (ri6 + (jI 1))]) (rest := [vr ra5, vr (gR h3 88 a0)]) (len := 3) hk hR hL hsz hsB htr hRr (cok_S (argsL := [.int (ri6 + (jI 1))]) hx hb hown hk (q1707) q1708 q172 q1709 kJ19_valueOf.1 kJ19_valueOf.2 rfl dX3_counts_72) f wJ19_valueOf iJ19_valueOf (by decide) (cat_sum _ (Nat.le_of_ble_eq_true rfl)) rfl (fun v h7 H locs f hR hL => ?_) (fun q h9 H locs hp hR hL => x_out hown hlk hR hL (fun x9 h9 => by rw [htb] at h9; exact absurd h9 List.not_mem_nil) ⟨hp.1, hp.2.1⟩ hp.2.2)
    obtain ⟨ra7, rfl, f⟩ := f
    show Wn p l e R s m args below meth c H locs _ (F0 m 75 ls [vr ra7, vr ra5, vr (gR h3 88 a0)])
    refine w_call (mi := mJ4_put) (As := [vR (gR h3 88 a0), vR ra5, vR ra7]) (rest := []) (len := 3) hk hR hL hsz hsB htr hRr (cok_V (i := 4) (C := RJ4) (argsL := [vr ra5, vr ra7]) hx hb hown hk hR f.1 (by decide) rfl q1947 q1948 q1949 q1950 kJ4_put.1 kJ4_put.2 rfl dX3_counts_75) f.2 wJ4_put iJ4_put (by decide) (cat_sum _ (Nat.le_of_ble_eq_true rfl)) rfl (fun v h8 H locs f hR hL => ?_) (fun q h9 H locs hp hR hL => x_out hown hlk hR hL (fun x9 h9 => by rw [htb] at h9; exact absurd h9 List.not_mem_nil) ⟨hp.1, hp.2.1⟩ hp.2.2)
    obtain ⟨ra8, rfl, f⟩ := f
    show Wn p l e R s m args below meth c H locs _ (F0 m 78 ls [vr ra8])
    obtain ⟨f1, f⟩ := f
    refine or_k f1 (fun q9 kk => w_castS (i := 7) (C := "java/lang/Integer") hx hb hown hk hR (Or.inl q9) (by decide) rfl q1942 dX3_counts_78 kk) (fun q9 kk => or_k q9 (fun q9 kk => w_castS (i := 7) (C := "java/lang/Integer") hx hb hown hk hR (Or.inr q9) (by decide) rfl q1942 dX3_counts_78 kk) (fun q9 kk => w_castS (i := 28) (C := "java/lang/Integer") hx hb hown hk hR (Or.inr q9) (by decide) rfl q1942 dX3_counts_78 kk) kk) ?_
    refine w_astore_n' (L' := [(3, vR ra8), (2, vR b0), (0, vR a0), (1, vR a1)]) hx hb dX3_counts_81 rfl hl (by decide) rfl (fun ls hl => ?_)
    have hsz : ls.size = c.maxLocals := hl.1.trans hml.symm
    refine lv_goto (tgt := 10) hx hb dX3_counts_82 (by decide) ?_
    exact (hV _ _ _ _).mp f H locs _ hR hL (lv_p hl [2, 3] rfl)
  · have f := f.2 c9
    refine w_iconst hx hb dX3_counts_62 ?_
    refine lv_goto (tgt := 72) hx hb dX3_counts_63 (by decide) ?_
    refine w_call (mi := mJ19_valueOf) (As := [vI (jI 1)]) (rest := [vr ra5, vr (gR h3 88 a0)]) (len := 3) hk hR hL hsz hsB htr hRr (cok_S (argsL := [.int (jI 1)]) hx hb hown hk (q1707) q1708 q172 q1709 kJ19_valueOf.1 kJ19_valueOf.2 rfl dX3_counts_72) f wJ19_valueOf iJ19_valueOf (by decide) (cat_sum _ (Nat.le_of_ble_eq_true rfl)) rfl (fun v h9 H locs f hR hL => ?_) (fun q h9 H locs hp hR hL => x_out hown hlk hR hL (fun x9 h9 => by rw [htb] at h9; exact absurd h9 List.not_mem_nil) ⟨hp.1, hp.2.1⟩ hp.2.2)
    obtain ⟨ra9, rfl, f⟩ := f
    show Wn p l e R s m args below meth c H locs _ (F0 m 75 ls [vr ra9, vr ra5, vr (gR h3 88 a0)])
    refine w_call (mi := mJ4_put) (As := [vR (gR h3 88 a0), vR ra5, vR ra9]) (rest := []) (len := 3) hk hR hL hsz hsB htr hRr (cok_V (i := 4) (C := RJ4) (argsL := [vr ra5, vr ra9]) hx hb hown hk hR f.1 (by decide) rfl q1947 q1948 q1949 q1950 kJ4_put.1 kJ4_put.2 rfl dX3_counts_75) f.2 wJ4_put iJ4_put (by decide) (cat_sum _ (Nat.le_of_ble_eq_true rfl)) rfl (fun v h10 H locs f hR hL => ?_) (fun q h9 H locs hp hR hL => x_out hown hlk hR hL (fun x9 h9 => by rw [htb] at h9; exact absurd h9 List.not_mem_nil) ⟨hp.1, hp.2.1⟩ hp.2.2)
    obtain ⟨ra10, rfl, f⟩ := f
    show Wn p l e R s m args below meth c H locs _ (F0 m 78 ls [vr ra10])
    obtain ⟨f1, f⟩ := f
    refine or_k f1 (fun q9 kk => w_castS (i := 7) (C := "java/lang/Integer") hx hb hown hk hR (Or.inl q9) (by decide) rfl q1942 dX3_counts_78 kk) (fun q9 kk => or_k q9 (fun q9 kk => w_castS (i := 7) (C := "java/lang/Integer") hx hb hown hk hR (Or.inr q9) (by decide) rfl q1942 dX3_counts_78 kk) (fun q9 kk => w_castS (i := 28) (C := "java/lang/Integer") hx hb hown hk hR (Or.inr q9) (by decide) rfl q1942 dX3_counts_78 kk) kk) ?_
    refine w_astore_n' (L' := [(3, vR ra10), (2, vR b0), (0, vR a0), (1, vR a1)]) hx hb dX3_counts_81 rfl hl (by decide) rfl (fun ls hl => ?_)
    have hsz : ls.size = c.maxLocals := hl.1.trans hml.symm
    refine lv_goto (tgt := 10) hx hb dX3_counts_82 (by decide) ?_
    exact (hV _ _ _ _).mp f H locs _ hR hL (lv_p hl [2, 3] rfl)
theorem b_X3_firstValue_0 {G : Wd} {l : Launch} {d : Nat} {post : Option Value → VH → Prop} {xp : Nat → VH → Prop} {V : Nat → List (Nat × VT) → List Value → VH → Prop} {XV : Nat → List (Nat × VT) → Nat → VH → Prop} (C : Ctx G l d mX3_firstValue post xp V XV) {i1 : Int32} {a0 : Nat} {h : VH}
    (f : (¬ i1 = 0 → (post (some (.int (jI 1))) h)) ∧ (i1 = 0 → (post (some (.int (jI 0))) h))) : V 0 [(0, vR a0), (1, vI i1)] [] h := by
  obtain ⟨p, e, R, s, m, args, below, meth, c, Q, ⟨hx, hb, hr, hlk, hml, hown, hk, hRr, htb, hnm, hsB, htr, hQ⟩, hV, hX⟩ := C
  rw [hV]
  intro H locs ls hR hL hl
  have hb : c.code = cX3_firstValue := hb
  have hr : meth.sig.returnType = some .int := hr
  have hml : c.maxLocals = 2 := hml
  have hown : s.vm.findClass RX3 = some m.cls := hown
  have hl : lv_has ls 2 (lm [(0, vR a0), (1, vI i1)]) := hl
  have hsz : ls.size = c.maxLocals := hl.1.trans hml.symm
  subst hQ
  refine lv_iload_n hx hb dX3_firstValue_0 rfl (lv_v hl (k := 1) rfl rfl) ?_
  refine lv_if_ne (tgt := 8) hx hb dX3_firstValue_1 (by decide) (fun c9 => ?_) (fun c9 => ?_)
  · have f := f.1 c9
    refine w_iconst hx hb dX3_firstValue_8 ?_
    exact w_iret hx hb hr hlk hR hL dX3_firstValue_9 f
  · have f := f.2 c9
    refine w_iconst hx hb dX3_firstValue_4 ?_
    refine lv_goto (tgt := 9) hx hb dX3_firstValue_5 (by decide) ?_
    exact w_iret hx hb hr hlk hR hL dX3_firstValue_9 f
theorem t_X3_firstValue {G : Wd} {l : Launch} {d : Nat} {post : Option Value → VH → Prop} {xp : Nat → VH → Prop} {i1 : Int32} {a0 : Nat} {h : VH} (hd : 9 ≤ d)
    (f : (¬ i1 = 0 → (post (some (.int (jI 1))) h)) ∧ (i1 = 0 → (post (some (.int (jI 0))) h))) : D G l d mX3_firstValue [vR a0, vI i1] h post xp := D_in hd rfl rfl fun V XV C => b_X3_firstValue_0 C f
theorem b_X3_init_0 {G : Wd} {l : Launch} {d : Nat} {post : Option Value → VH → Prop} {xp : Nat → VH → Prop} {V : Nat → List (Nat × VT) → List Value → VH → Prop} {XV : Nat → List (Nat × VT) → Nat → VH → Prop} (C : Ctx G l d mX3_init post xp V XV) {a0 : Nat} {h : VH}
    (f : a0 ≠ 0 ∧ ((kd h a0 = 3) ∧ (∀ h1 : VH, h1 = sI h 84 a0 (jI 8) → ((kd h1 a0 = 3) ∧ (∀ h2 : VH, h2 = sI h1 85 a0 (jI 8) → ((kd h2 a0 = 3) ∧ (∀ h3 : VH, h3 = sI h2 86 a0 (jI 3) → ((hz h3 ≤ wC G) ∧ (hs h3 + 3 ≤ wS G) ∧ (∀ h4 : VH, h4 = al h3 4 0 3 → ((hz h3) ≠ 0 ∧ D G l d mJ2_init [vR (hz h3)] h4 (fun v h5 => v = none ∧ ((kd h5 a0 = 3) ∧ (∀ h6 : VH, h6 = sR h5 87 a0 (hz h3) → ((hz h6 ≤ wC G) ∧ (hs h6 + 9 ≤ wS G) ∧ (∀ h7 : VH, h7 = al h6 5 0 9 → ((hz h6) ≠ 0 ∧ D G l d mJ4_init [vR (hz h6)] h7 (fun v h8 => v = none ∧ ((kd h8 a0 = 3) ∧ (∀ h9 : VH, h9 = sR h8 88 a0 (hz h6) → ((¬ (jI 2) < 0) ∧ (¬ (jI 6) < 0) ∧ (((jI 2)).toNatClampNeg ≤ 1000000) ∧ (((jI 6)).toNatClampNeg ≤ 1000000) ∧ (hz h9 + ((jI 2)).toNatClampNeg ≤ wC G) ∧ (hs h9 + (((jI 2)).toNatClampNeg + ((jI 2)).toNatClampNeg * ((jI 6)).toNatClampNeg) ≤ wS G) ∧ (∀ h10 : VH, h10 = mal h9 206 200 ((jI 2)).toNatClampNeg ((jI 6)).toNatClampNeg → ((kd h10 a0 = 3) ∧ (∀ h11 : VH, h11 = sR h10 89 a0 (hz h9) → (V 56 [(0, vR a0), (1, vI (jI 0))] [] h11)))))))) xp)))))) xp)))))))))) : V 0 [(0, vR a0)] [] h := by
  obtain ⟨p, e, R, s, m, args, below, meth, c, Q, ⟨hx, hb, hr, hlk, hml, hown, hk, hRr, htb, hnm, hsB, htr, hQ⟩, hV, hX⟩ := C
  rw [hV]
  intro H locs ls hR hL hl
  have hb : c.code = cX3_init := hb
  have hr : meth.sig.returnType = none := hr
  have hml : c.maxLocals = 3 := hml
  have hown : s.vm.findClass RX3 = some m.cls := hown
  have hl : lv_has ls 3 (lm [(0, vR a0)]) := hl
  have hsz : ls.size = c.maxLocals := hl.1.trans hml.symm
  subst hQ
  refine w_aload_n hx hb dX3_init_0 rfl (lv_v hl (k := 0) rfl rfl) ?_
  obtain ⟨f1, f⟩ := f
  refine w_oinit hx hb hown hk f1 hRr q220 q211 q212 hsz dX3_init_1 (Nat.le_of_ble_eq_true rfl) ?_
  refine w_aload_n hx hb dX3_init_4 rfl (lv_v hl (k := 0) rfl rfl) ?_
  refine w_bipush hx hb dX3_init_5 (by decide) ?_
  obtain ⟨f1, f⟩ := f
  refine w_put (i := 2) (k := 4) (c1 := cI (h.1 a0) 84 (jI 8)) hx hb hown hk hR hL clk_X3 f1 (by decide) (by decide) q306 (fun _ h9 => h9) rfl ⟨rfl, rfl⟩ rfl (pvI clk_X3 (by decide) rfl rfl) dX3_init_7 (fun H locs hR hL => ?_)
  obtain ⟨h1, eh1⟩ : ∃ z : VH, z = sI h 84 a0 (jI 8) := ⟨_, rfl⟩
  have hR : Rp G h1 H := by rw [eh1]; exact hR
  have f := f h1 eh1
  refine w_aload_n hx hb dX3_init_10 rfl (lv_v hl (k := 0) rfl rfl) ?_
  refine w_bipush hx hb dX3_init_11 (by decide) ?_
  obtain ⟨f1, f⟩ := f
  refine w_put (i := 2) (k := 5) (c1 := cI (h1.1 a0) 85 (jI 8)) hx hb hown hk hR hL clk_X3 f1 (by decide) (by decide) q310 (fun _ h9 => h9) rfl ⟨rfl, rfl⟩ rfl (pvI clk_X3 (by decide) rfl rfl) dX3_init_13 (fun H locs hR hL => ?_)
  obtain ⟨h2, eh2⟩ : ∃ z : VH, z = sI h1 85 a0 (jI 8) := ⟨_, rfl⟩
  have hR : Rp G h2 H := by rw [eh2]; exact hR
  have f := f h2 eh2
  refine w_aload_n hx hb dX3_init_16 rfl (lv_v hl (k := 0) rfl rfl) ?_
  refine w_iconst hx hb dX3_init_17 ?_
  obtain ⟨f1, f⟩ := f
  refine w_put (i := 2) (k := 6) (c1 := cI (h2.1 a0) 86 (jI 3)) hx hb hown hk hR hL clk_X3 f1 (by decide) (by decide) q313 (fun _ h9 => h9) rfl ⟨rfl, rfl⟩ rfl (pvI clk_X3 (by decide) rfl rfl) dX3_init_18 (fun H locs hR hL => ?_)
  obtain ⟨h3, eh3⟩ : ∃ z : VH, z = sI h2 86 a0 (jI 3) := ⟨_, rfl⟩
  have hR : Rp G h3 H := by rw [eh3]; exact hR
  have f := f h3 eh3
  refine w_aload_n hx hb dX3_init_21 rfl (lv_v hl (k := 0) rfl rfl) ?_
  obtain ⟨f1, f2, f⟩ := f
  refine w_new hx hb hown hk hR hL hRr.2.2.1 hRr.2.2.2.1 hsB clk_J2 q221 q222 q154 f1 f2 (fun k hk => by match k, hk with | 0, _ => rfl | 1, _ => rfl | 2, _ => rfl | k + 3, hk => exact absurd hk (by omega)) (by decide) (by decide) dX3_init_22 (fun H hR => ?_)
  obtain ⟨h4, eh4⟩ : ∃ z : VH, z = al h3 4 0 3 := ⟨_, rfl⟩
  have hR : Rp G h4 H := by rw [eh4]; exact hR
  have f := f h4 eh4
  refine lv_dup hx hb dX3_init_25 (vr_cat _) ?_
  refine w_call (mi := mJ2_init) (As := [vR (hz h3)]) (rest := [vr (hz h3), vr a0]) (len := 3) hk hR hL hsz hsB htr hRr (cok_I (argsL := []) hx hb hown hk f.1 rfl q223 q224 q225 kJ2_init.1 kJ2_init.2 rfl dX3_init_26) f.2 wJ2_init iJ2_init (by decide) (cat_sum _ (Nat.le_of_ble_eq_true rfl)) rfl (fun v h5 H locs f hR hL => ?_) (fun q h9 H locs hp hR hL => x_out hown hlk hR hL (fun x9 h9 => by rw [htb] at h9; exact absurd h9 List.not_mem_nil) ⟨hp.1, hp.2.1⟩ hp.2.2)
  obtain ⟨rfl, f⟩ := f
  show Wn p l e R s m args below meth c H locs _ (F0 m 29 ls [vr (hz h3), vr a0])
  obtain ⟨f1, f⟩ := f
  refine w_putF (i := 2) (k := 7) (c1 := cR (h5.1 a0) 87 (hz h3)) hx hb hown hk hR hL clk_X3 f1 (by decide) (by decide) q316 (fun _ h9 => h9) rfl hnm rfl (vr_fit rfl _) rfl (pvR clk_X3 (by decide) rfl rfl) dX3_init_29 (fun H locs hR hL => ?_)
  obtain ⟨h6, eh6⟩ : ∃ z : VH, z = sR h5 87 a0 (hz h3) := ⟨_, rfl⟩
  have hR : Rp G h6 H := by rw [eh6]; exact hR
  have f := f h6 eh6
  refine w_aload_n hx hb dX3_init_32 rfl (lv_v hl (k := 0) rfl rfl) ?_
  obtain ⟨f1, f2, f⟩ := f
  refine w_new hx hb hown hk hR hL hRr.2.2.1 hRr.2.2.2.1 hsB clk_J4 q254 q255 q156 f1 f2 (fun k hk => by match k, hk with | 0, _ => rfl | 1, _ => rfl | 2, _ => rfl | 3, _ => rfl | 4, _ => rfl | 5, _ => rfl | 6, _ => rfl | 7, _ => rfl | 8, _ => rfl | k + 9, hk => exact absurd hk (by omega)) (by decide) (by decide) dX3_init_33 (fun H hR => ?_)
  obtain ⟨h7, eh7⟩ : ∃ z : VH, z = al h6 5 0 9 := ⟨_, rfl⟩
  have hR : Rp G h7 H := by rw [eh7]; exact hR
  have f := f h7 eh7
  refine lv_dup hx hb dX3_init_36 (vr_cat _) ?_
  refine w_call (mi := mJ4_init) (As := [vR (hz h6)]) (rest := [vr (hz h6), vr a0]) (len := 3) hk hR hL hsz hsB htr hRr (cok_I (argsL := []) hx hb hown hk f.1 rfl q256 q257 q258 kJ4_init.1 kJ4_init.2 rfl dX3_init_37) f.2 wJ4_init iJ4_init (by decide) (cat_sum _ (Nat.le_of_ble_eq_true rfl)) rfl (fun v h8 H locs f hR hL => ?_) (fun q h9 H locs hp hR hL => x_out hown hlk hR hL (fun x9 h9 => by rw [htb] at h9; exact absurd h9 List.not_mem_nil) ⟨hp.1, hp.2.1⟩ hp.2.2)
  obtain ⟨rfl, f⟩ := f
  show Wn p l e R s m args below meth c H locs _ (F0 m 40 ls [vr (hz h6), vr a0])
  obtain ⟨f1, f⟩ := f
  refine w_putF (i := 2) (k := 8) (c1 := cR (h8.1 a0) 88 (hz h6)) hx hb hown hk hR hL clk_X3 f1 (by decide) (by decide) q321 (fun _ h9 => h9) rfl hnm rfl (vr_fit rfl _) rfl (pvR clk_X3 (by decide) rfl rfl) dX3_init_40 (fun H locs hR hL => ?_)
  obtain ⟨h9, eh9⟩ : ∃ z : VH, z = sR h8 88 a0 (hz h6) := ⟨_, rfl⟩
  have hR : Rp G h9 H := by rw [eh9]; exact hR
  have f := f h9 eh9
  refine w_aload_n hx hb dX3_init_43 rfl (lv_v hl (k := 0) rfl rfl) ?_
  refine w_iconst hx hb dX3_init_44 ?_
  refine w_bipush hx hb dX3_init_45 (by decide) ?_
  obtain ⟨f1, f2, f3, f4, f5, f6, f⟩ := f
  refine w_multi (tO := 6) (tI := 0) (ty := .int) hx hb hown hk hR hRr.2.2.1 hRr.2.2.2.1 hsB (by decide) (by decide) rfl rfl q286 (hk.aoA q287 args) q346 (by decide) rfl rfl (fun _ _ => rfl) (hk.k.2 0 _ rfl).2 f1 f2 f3 f4 f5 f6 dX3_init_47 (fun H hR => ?_)
  obtain ⟨h10, eh10⟩ : ∃ z : VH, z = mal h9 206 200 ((jI 2)).toNatClampNeg ((jI 6)).toNatClampNeg := ⟨_, rfl⟩
  have hR : Rp G h10 H := by rw [eh10]; exact hR
  have f := f h10 eh10
  obtain ⟨f1, f⟩ := f
  refine w_putF (i := 2) (k := 9) (c1 := cR (h10.1 a0) 89 (hz h9)) hx hb hown hk hR hL clk_X3 f1 (by decide) (by decide) q322 (fun _ h9 => h9) rfl hnm rfl (vr_fit rfl _) rfl (pvR clk_X3 (by decide) rfl rfl) dX3_init_51 (fun H locs hR hL => ?_)
  obtain ⟨h11, eh11⟩ : ∃ z : VH, z = sR h10 89 a0 (hz h9) := ⟨_, rfl⟩
  have hR : Rp G h11 H := by rw [eh11]; exact hR
  have f := f h11 eh11
  refine w_iconst hx hb dX3_init_54 ?_
  refine w_istore_n (L' := [(1, vI (jI 0)), (0, vR a0)]) hx hb dX3_init_55 rfl hl (by decide) rfl (fun ls hl => ?_)
  have hsz : ls.size = c.maxLocals := hl.1.trans hml.symm
  exact (hV _ _ _ _).mp f H locs _ hR hL (lv_p hl [1, 0] rfl)
theorem b_X3_init_56 {G : Wd} {l : Launch} {d : Nat} {post : Option Value → VH → Prop} {xp : Nat → VH → Prop} {V : Nat → List (Nat × VT) → List Value → VH → Prop} {XV : Nat → List (Nat × VT) → Nat → VH → Prop} (C : Ctx G l d mX3_init post xp V XV) {i1 : Int32} {a0 : Nat} {h : VH}
    (f : ((jI 1) < i1 → (post none h)) ∧ (¬ (jI 1) < i1 → (V 63 [(0, vR a0), (1, vI i1), (2, vI (jI 0))] [] h))) : V 56 [(0, vR a0), (1, vI i1)] [] h := by
  obtain ⟨p, e, R, s, m, args, below, meth, c, Q, ⟨hx, hb, hr, hlk, hml, hown, hk, hRr, htb, hnm, hsB, htr, hQ⟩, hV, hX⟩ := C
  rw [hV]
  intro H locs ls hR hL hl
  have hb : c.code = cX3_init := hb
  have hr : meth.sig.returnType = none := hr
  have hml : c.maxLocals = 3 := hml
  have hown : s.vm.findClass RX3 = some m.cls := hown
  have hl : lv_has ls 3 (lm [(0, vR a0), (1, vI i1)]) := hl
  have hsz : ls.size = c.maxLocals := hl.1.trans hml.symm
  subst hQ
  refine lv_iload_n hx hb dX3_init_56 rfl (lv_v hl (k := 1) rfl rfl) ?_
  refine w_iconst hx hb dX3_init_57 ?_
  refine lv_icmp_gt (tgt := 90) hx hb dX3_init_58 (by decide) (fun c9 => ?_) (fun c9 => ?_)
  · have f := f.1 c9
    exact w_vret hx hb hr hlk hR hL dX3_init_90 f
  · have f := f.2 c9
    refine w_iconst hx hb dX3_init_61 ?_
    refine w_istore_n (L' := [(2, vI (jI 0)), (0, vR a0), (1, vI i1)]) hx hb dX3_init_62 rfl hl (by decide) rfl (fun ls hl => ?_)
    have hsz : ls.size = c.maxLocals := hl.1.trans hml.symm
    exact (hV _ _ _ _).mp f H locs _ hR hL (lv_p hl [1, 2, 0] rfl)
theorem b_X3_init_63 {G : Wd} {l : Launch} {d : Nat} {post : Option Value → VH → Prop} {xp : Nat → VH → Prop} {V : Nat → List (Nat × VT) → List Value → VH → Prop} {XV : Nat → List (Nat × VT) → Nat → VH → Prop} (C : Ctx G l d mX3_init post xp V XV) {i1 i2 : Int32} {a0 : Nat} {h : VH}
    (f : ((jI 5) < i2 → (V 56 [(0, vR a0), (1, vI (i1 + (jI 1)))] [] h)) ∧ (¬ (jI 5) < i2 → ((kd h a0 = 3) ∧ ((isArrR h (gR h 89 a0)) ∧ (vp_in i1 (ln h (gR h 89 a0))) ∧ ((kd h (gR h (i1).toNatClampNeg (gR h 89 a0)) = 200) ∧ (vp_in i2 (ln h (gR h (i1).toNatClampNeg (gR h 89 a0)))) ∧ (∀ h1 : VH, h1 = sI h (i2).toNatClampNeg (gR h (i1).toNatClampNeg (gR h 89 a0)) (jI 99) → (V 63 [(0, vR a0), (1, vI i1), (2, vI (i2 + (jI 1)))] [] h1))))))) : V 63 [(0, vR a0), (1, vI i1), (2, vI i2)] [] h := by
  obtain ⟨p, e, R, s, m, args, below, meth, c, Q, ⟨hx, hb, hr, hlk, hml, hown, hk, hRr, htb, hnm, hsB, htr, hQ⟩, hV, hX⟩ := C
  rw [hV]
  intro H locs ls hR hL hl
  have hb : c.code = cX3_init := hb
  have hr : meth.sig.returnType = none := hr
  have hml : c.maxLocals = 3 := hml
  have hown : s.vm.findClass RX3 = some m.cls := hown
  have hl : lv_has ls 3 (lm [(0, vR a0), (1, vI i1), (2, vI i2)]) := hl
  have hsz : ls.size = c.maxLocals := hl.1.trans hml.symm
  subst hQ
  refine lv_iload_n hx hb dX3_init_63 rfl (lv_v hl (k := 2) rfl rfl) ?_
  refine w_iconst hx hb dX3_init_64 ?_
  refine lv_icmp_gt (tgt := 84) hx hb dX3_init_65 (by decide) (fun c9 => ?_) (fun c9 => ?_)
  · have f := f.1 c9
    refine w_iinc (L' := [(1, vI (i1 + (jI 1))), (0, vR a0), (2, vI i2)]) hx hb dX3_init_84 hl (k := 1) rfl (by decide) rfl (fun ls hl => ?_)
    have hsz : ls.size = c.maxLocals := hl.1.trans hml.symm
    refine lv_goto (tgt := 56) hx hb dX3_init_87 (by decide) ?_
    exact (hV _ _ _ _).mp f H locs _ hR hL (lv_p hl [1, 0] rfl)
  · have f := f.2 c9
    refine w_aload_n hx hb dX3_init_68 rfl (lv_v hl (k := 0) rfl rfl) ?_
    obtain ⟨f1, f⟩ := f
    refine w_get (i := 2) (k := 9) (v := vr (gR h 89 a0)) hx hb hown hk hR clk_X3 f1 (by decide) (by decide) q322 (fun _ h9 => h9) rfl dX3_init_69 ?_
    refine lv_iload_n hx hb dX3_init_72 rfl (lv_v hl (k := 1) rfl rfl) ?_
    obtain ⟨f1, f2, f⟩ := f
    obtain ⟨t9, ty9, g1, g2, g3, g4⟩ := f1.use
    refine w_aald hx hb hk hR g1 g2 g3 g4 f2 dX3_init_73 ?_
    refine lv_iload_n hx hb dX3_init_74 rfl (lv_v hl (k := 2) rfl rfl) ?_
    refine w_bipush hx hb dX3_init_75 (by decide) ?_
    obtain ⟨f1, f2, f⟩ := f
    refine w_iast hx hb hk hR hL f1 f2 dX3_init_77 (fun H locs hR hL => ?_)
    obtain ⟨h1, eh1⟩ : ∃ z : VH, z = sI h (i2).toNatClampNeg (gR h (i1).toNatClampNeg (gR h 89 a0)) (jI 99) := ⟨_, rfl⟩
    have hR : Rp G h1 H := by rw [eh1]; exact hR
    have f := f h1 eh1
    refine w_iinc (L' := [(2, vI (i2 + (jI 1))), (0, vR a0), (1, vI i1)]) hx hb dX3_init_78 hl (k := 2) rfl (by decide) rfl (fun ls hl => ?_)
    have hsz : ls.size = c.maxLocals := hl.1.trans hml.symm
    refine lv_goto (tgt := 63) hx hb dX3_init_81 (by decide) ?_
    exact (hV _ _ _ _).mp f H locs _ hR hL (lv_p hl [1, 2, 0] rfl)
theorem b_X3_isWord_0 {G : Wd} {l : Launch} {d : Nat} {post : Option Value → VH → Prop} {xp : Nat → VH → Prop} {V : Nat → List (Nat × VT) → List Value → VH → Prop} {XV : Nat → List (Nat × VT) → Nat → VH → Prop} (C : Ctx G l d mX3_isWord post xp V XV) {i1 i2 : Int32} {a0 : Nat} {h : VH}
    (f : D G l d mX1_inRange [vJ (Int32.toInt64 i1), vJ (jL 0), vJ (jL 1)] h (fun v h1 => ∃ ri1, v = some (.int ri1) ∧ ((ri1 = 0 → (post (some (.int (jI 0))) h1)) ∧ (¬ ri1 = 0 → ((kd h1 a0 = 3) ∧ D G l d mX3_firstValue [vR a0, vI i1] h1 (fun v h2 => ∃ ri2, v = some (.int ri2) ∧ ((kd h2 a0 = 3) ∧ D G l d mX3_lastValue [vR a0, vI i1] h2 (fun v h3 => ∃ ri3, v = some (.int ri3) ∧ (D G l d mX1_inRange [vJ (Int32.toInt64 i2), vJ (Int32.toInt64 ri2), vJ (Int32.toInt64 ri3)] h3 (fun v h4 => ∃ ri4, v = some (.int ri4) ∧ ((ri4 = 0 → (post (some (.int (jI 0))) h4)) ∧ (¬ ri4 = 0 → (post (some (.int (jI 1))) h4)))) xp)) xp)) xp)))) xp) : V 0 [(0, vR a0), (1, vI i1), (2, vI i2)] [] h := by
  obtain ⟨p, e, R, s, m, args, below, meth, c, Q, ⟨hx, hb, hr, hlk, hml, hown, hk, hRr, htb, hnm, hsB, htr, hQ⟩, hV, hX⟩ := C
  rw [hV]
  intro H locs ls hR hL hl
  have hb : c.code = cX3_isWord := hb
  have hr : meth.sig.returnType = some .boolean := hr
  have hml : c.maxLocals = 3 := hml
  have hown : s.vm.findClass RX3 = some m.cls := hown
  have hl : lv_has ls 3 (lm [(0, vR a0), (1, vI i1), (2, vI i2)]) := hl
  have hsz : ls.size = c.maxLocals := hl.1.trans hml.symm
  subst hQ
  refine lv_iload_n hx hb dX3_isWord_0 rfl (lv_v hl (k := 1) rfl rfl) ?_
  refine lv_i2l (v := Int32.toInt64 i1) hx hb dX3_isWord_1 rfl ?_
  refine w_lconst0 hx hb dX3_isWord_2 ?_
  refine w_lconst1 hx hb dX3_isWord_3 ?_
  refine w_call (mi := mX1_inRange) (As := [vJ (Int32.toInt64 i1), vJ (jL 0), vJ (jL 1)]) (rest := []) (len := 3) hk hR hL hsz hsB htr hRr (cok_SN (argsL := [.long (Int32.toInt64 i1), .long (jL 0), .long (jL 1)]) hx hb hown hk (q2756) q955 q149 q956 kX1_inRange.1 kX1_inRange.2 rfl dX3_isWord_4) f wX1_inRange iX1_inRange (by decide) (cat_sum _ (Nat.le_of_ble_eq_true rfl)) rfl (fun v h1 H locs f hR hL => ?_) (fun q h9 H locs hp hR hL => x_out hown hlk hR hL (fun x9 h9 => by rw [htb] at h9; exact absurd h9 List.not_mem_nil) ⟨hp.1, hp.2.1⟩ hp.2.2)
  obtain ⟨ri1, rfl, f⟩ := f
  show Wn p l e R s m args below meth c H locs _ (F0 m 7 ls [.int ri1])
  refine lv_if_eq (tgt := 34) hx hb dX3_isWord_7 (by decide) (fun c9 => ?_) (fun c9 => ?_)
  · have f := f.1 c9
    refine w_iconst hx hb dX3_isWord_34 ?_
    exact w_zret hx hb hr hlk hR hL dX3_isWord_35 rfl f
  · have f := f.2 c9
    refine lv_iload_n hx hb dX3_isWord_10 rfl (lv_v hl (k := 2) rfl rfl) ?_
    refine lv_i2l (v := Int32.toInt64 i2) hx hb dX3_isWord_11 rfl ?_
    refine w_aload_n hx hb dX3_isWord_12 rfl (lv_v hl (k := 0) rfl rfl) ?_
    refine lv_iload_n hx hb dX3_isWord_13 rfl (lv_v hl (k := 1) rfl rfl) ?_
    refine w_call (mi := mX3_firstValue) (As := [vR a0, vI i1]) (rest := [.long (Int32.toInt64 i2)]) (len := 3) hk hR hL hsz hsB htr hRr (cok_V (i := 2) (C := RX3) (argsL := [.int i1]) hx hb hown hk hR f.1 (by decide) rfl q2757 q1273 q1274 q1275 kX3_firstValue.1 kX3_firstValue.2 rfl dX3_isWord_14) f.2 wX3_firstValue iX3_firstValue (by decide) (cat_sum _ (Nat.le_of_ble_eq_true rfl)) rfl (fun v h2 H locs f hR hL => ?_) (fun q h9 H locs hp hR hL => x_out hown hlk hR hL (fun x9 h9 => by rw [htb] at h9; exact absurd h9 List.not_mem_nil) ⟨hp.1, hp.2.1⟩ hp.2.2)
    obtain ⟨ri2, rfl, f⟩ := f
    show Wn p l e R s m args below meth c H locs _ (F0 m 17 ls [.int ri2, .long (Int32.toInt64 i2)])
    refine lv_i2l (v := Int32.toInt64 ri2) hx hb dX3_isWord_17 rfl ?_
    refine w_aload_n hx hb dX3_isWord_18 rfl (lv_v hl (k := 0) rfl rfl) ?_
    refine lv_iload_n hx hb dX3_isWord_19 rfl (lv_v hl (k := 1) rfl rfl) ?_
    refine w_call (mi := mX3_lastValue) (As := [vR a0, vI i1]) (rest := [.long (Int32.toInt64 ri2), .long (Int32.toInt64 i2)]) (len := 3) hk hR hL hsz hsB htr hRr (cok_V (i := 2) (C := RX3) (argsL := [.int i1]) hx hb hown hk hR f.1 (by decide) rfl q2758 q1277 q1278 q1279 kX3_lastValue.1 kX3_lastValue.2 rfl dX3_isWord_20) f.2 wX3_lastValue iX3_lastValue (by decide) (cat_sum _ (Nat.le_of_ble_eq_true rfl)) rfl (fun v h3 H locs f hR hL => ?_) (fun q h9 H locs hp hR hL => x_out hown hlk hR hL (fun x9 h9 => by rw [htb] at h9; exact absurd h9 List.not_mem_nil) ⟨hp.1, hp.2.1⟩ hp.2.2)
    obtain ⟨ri3, rfl, f⟩ := f
    show Wn p l e R s m args below meth c H locs _ (F0 m 23 ls [.int ri3, .long (Int32.toInt64 ri2), .long (Int32.toInt64 i2)])
    refine lv_i2l (v := Int32.toInt64 ri3) hx hb dX3_isWord_23 rfl ?_
    refine w_call (mi := mX1_inRange) (As := [vJ (Int32.toInt64 i2), vJ (Int32.toInt64 ri2), vJ (Int32.toInt64 ri3)]) (rest := []) (len := 3) hk hR hL hsz hsB htr hRr (cok_SN (argsL := [.long (Int32.toInt64 i2), .long (Int32.toInt64 ri2), .long (Int32.toInt64 ri3)]) hx hb hown hk (q2756) q955 q149 q956 kX1_inRange.1 kX1_inRange.2 rfl dX3_isWord_24) f wX1_inRange iX1_inRange (by decide) (cat_sum _ (Nat.le_of_ble_eq_true rfl)) rfl (fun v h4 H locs f hR hL => ?_) (fun q h9 H locs hp hR hL => x_out hown hlk hR hL (fun x9 h9 => by rw [htb] at h9; exact absurd h9 List.not_mem_nil) ⟨hp.1, hp.2.1⟩ hp.2.2)
    obtain ⟨ri4, rfl, f⟩ := f
    show Wn p l e R s m args below meth c H locs _ (F0 m 27 ls [.int ri4])
    refine lv_if_eq (tgt := 34) hx hb dX3_isWord_27 (by decide) (fun c9 => ?_) (fun c9 => ?_)
    · have f := f.1 c9
      refine w_iconst hx hb dX3_isWord_34 ?_
      exact w_zret hx hb hr hlk hR hL dX3_isWord_35 rfl f
    · have f := f.2 c9
      refine w_iconst hx hb dX3_isWord_30 ?_
      refine lv_goto (tgt := 35) hx hb dX3_isWord_31 (by decide) ?_
      exact w_zret hx hb hr hlk hR hL dX3_isWord_35 rfl f
theorem t_X3_isWord {G : Wd} {l : Launch} {d : Nat} {post : Option Value → VH → Prop} {xp : Nat → VH → Prop} {i1 i2 : Int32} {a0 : Nat} {h : VH} (hd : 9 ≤ d)
    (f : D G l (d - 1) mX1_inRange [vJ (Int32.toInt64 i1), vJ (jL 0), vJ (jL 1)] h (fun v h1 => ∃ ri1, v = some (.int ri1) ∧ ((ri1 = 0 → (post (some (.int (jI 0))) h1)) ∧ (¬ ri1 = 0 → ((kd h1 a0 = 3) ∧ D G l (d - 1) mX3_firstValue [vR a0, vI i1] h1 (fun v h2 => ∃ ri2, v = some (.int ri2) ∧ ((kd h2 a0 = 3) ∧ D G l (d - 1) mX3_lastValue [vR a0, vI i1] h2 (fun v h3 => ∃ ri3, v = some (.int ri3) ∧ (D G l (d - 1) mX1_inRange [vJ (Int32.toInt64 i2), vJ (Int32.toInt64 ri2), vJ (Int32.toInt64 ri3)] h3 (fun v h4 => ∃ ri4, v = some (.int ri4) ∧ ((ri4 = 0 → (post (some (.int (jI 0))) h4)) ∧ (¬ ri4 = 0 → (post (some (.int (jI 1))) h4)))) xp)) xp)) xp)))) xp) : D G l d mX3_isWord [vR a0, vI i1, vI i2] h post xp := D_in hd rfl rfl fun V XV C => b_X3_isWord_0 C f
theorem b_X3_lastValue_0 {G : Wd} {l : Launch} {d : Nat} {post : Option Value → VH → Prop} {xp : Nat → VH → Prop} {V : Nat → List (Nat × VT) → List Value → VH → Prop} {XV : Nat → List (Nat × VT) → Nat → VH → Prop} (C : Ctx G l d mX3_lastValue post xp V XV) {i1 : Int32} {a0 : Nat} {h : VH}
    (f : (¬ i1 = 0 → ((kd h a0 = 3) ∧ (post (some (.int (gI h 81 a0))) h))) ∧ (i1 = 0 → ((kd h a0 = 3) ∧ (post (some (.int ((gI h 80 a0) - (jI 1)))) h)))) : V 0 [(0, vR a0), (1, vI i1)] [] h := by
  obtain ⟨p, e, R, s, m, args, below, meth, c, Q, ⟨hx, hb, hr, hlk, hml, hown, hk, hRr, htb, hnm, hsB, htr, hQ⟩, hV, hX⟩ := C
  rw [hV]
  intro H locs ls hR hL hl
  have hb : c.code = cX3_lastValue := hb
  have hr : meth.sig.returnType = some .int := hr
  have hml : c.maxLocals = 2 := hml
  have hown : s.vm.findClass RX3 = some m.cls := hown
  have hl : lv_has ls 2 (lm [(0, vR a0), (1, vI i1)]) := hl
  have hsz : ls.size = c.maxLocals := hl.1.trans hml.symm
  subst hQ
  refine lv_iload_n hx hb dX3_lastValue_0 rfl (lv_v hl (k := 1) rfl rfl) ?_
  refine lv_if_ne (tgt := 13) hx hb dX3_lastValue_1 (by decide) (fun c9 => ?_) (fun c9 => ?_)
  · have f := f.1 c9
    refine w_aload_n hx hb dX3_lastValue_13 rfl (lv_v hl (k := 0) rfl rfl) ?_
    obtain ⟨f1, f⟩ := f
    refine w_get (i := 2) (k := 1) (v := .int (gI h 81 a0)) hx hb hown hk hR clk_X3 f1 (by decide) (by decide) q294 (fun _ h9 => h9) rfl dX3_lastValue_14 ?_
    exact w_iret hx hb hr hlk hR hL dX3_lastValue_17 f
  · have f := f.2 c9
    refine w_aload_n hx hb dX3_lastValue_4 rfl (lv_v hl (k := 0) rfl rfl) ?_
    obtain ⟨f1, f⟩ := f
    refine w_get (i := 2) (k := 0) (v := .int (gI h 80 a0)) hx hb hown hk hR clk_X3 f1 (by decide) (by decide) q289 (fun _ h9 => h9) rfl dX3_lastValue_5 ?_
    refine w_iconst hx hb dX3_lastValue_8 ?_
    refine lv_isub hx hb dX3_lastValue_9 ?_
    refine lv_goto (tgt := 17) hx hb dX3_lastValue_10 (by decide) ?_
    exact w_iret hx hb hr hlk hR hL dX3_lastValue_17 f
theorem t_X3_lastValue {G : Wd} {l : Launch} {d : Nat} {post : Option Value → VH → Prop} {xp : Nat → VH → Prop} {i1 : Int32} {a0 : Nat} {h : VH} (hd : 9 ≤ d)
    (f : (¬ i1 = 0 → ((kd h a0 = 3) ∧ (post (some (.int (gI h 81 a0))) h))) ∧ (i1 = 0 → ((kd h a0 = 3) ∧ (post (some (.int ((gI h 80 a0) - (jI 1)))) h)))) : D G l d mX3_lastValue [vR a0, vI i1] h post xp := D_in hd rfl rfl fun V XV C => b_X3_lastValue_0 C f
theorem b_X4_init_0 {G : Wd} {l : Launch} {d : Nat} {post : Option Value → VH → Prop} {xp : Nat → VH → Prop} {V : Nat → List (Nat × VT) → List Value → VH → Prop} {XV : Nat → List (Nat × VT) → Nat → VH → Prop} (C : Ctx G l d mX4_init post xp V XV) {a0 a1 : Nat} {h : VH}
    (f : ((kd h a0 = 12 ∧ gR h 440 a0 = a1) ∨ (kd h a0 = 21 ∧ gR h 803 a0 = a1) ∨ (kd h a0 = 24 ∧ gR h 922 a0 = a1)) ∧ (a0 ≠ 0 ∧ (post none h))) : V 0 [(0, vR a0), (1, vR a1)] [] h := by
  obtain ⟨p, e, R, s, m, args, below, meth, c, Q, ⟨hx, hb, hr, hlk, hml, hown, hk, hRr, htb, hnm, hsB, htr, hQ⟩, hV, hX⟩ := C
  rw [hV]
  intro H locs ls hR hL hl
  have hb : c.code = cX4_init := hb
  have hr : meth.sig.returnType = none := hr
  have hml : c.maxLocals = 2 := hml
  have hown : s.vm.findClass RX4 = some m.cls := hown
  have hl : lv_has ls 2 (lm [(0, vR a0), (1, vR a1)]) := hl
  have hsz : ls.size = c.maxLocals := hl.1.trans hml.symm
  subst hQ
  refine w_aload_n hx hb dX4_init_0 rfl (lv_v hl (k := 0) rfl rfl) ?_
  refine w_aload_n hx hb dX4_init_1 rfl (lv_v hl (k := 1) rfl rfl) ?_
  obtain ⟨f1, f⟩ := f
  refine (fun q9 kk => Or.elim q9 (fun q9 => w_putMove (i := 11) hx hb hown hk hR hL clk_X5 q9.1 (by decide) q819 q822 q810 (by decide) (by decide) hnm rfl (vr_fit rfl _) (fun k hk => by match k, hk with | 0, _ => exact fun _ => (by rw [← q9.2]; rfl) | k + 1, hk => exact absurd hk (by omega)) dX4_init_2 kk) (fun q9 => Or.elim q9 (fun q9 => w_putMove (i := 20) hx hb hown hk hR hL clk_X11 q9.1 (by decide) q819 q1588 q1563 (by decide) (by decide) hnm rfl (vr_fit rfl _) (fun k hk => by match k, hk with | 0, _ => exact fun h9 => absurd h9 (by decide +kernel) | 1, _ => exact fun h9 => absurd h9 (by decide +kernel) | 2, _ => exact fun h9 => absurd h9 (by decide +kernel) | 3, _ => exact fun _ => (by rw [← q9.2]; rfl) | k + 4, hk => exact absurd hk (by omega)) dX4_init_2 kk) (fun q9 => w_putMove (i := 23) hx hb hown hk hR hL clk_X13 q9.1 (by decide) q819 q2334 q2320 (by decide) (by decide) hnm rfl (vr_fit rfl _) (fun k hk => by match k, hk with | 0, _ => exact fun h9 => absurd h9 (by decide +kernel) | 1, _ => exact fun h9 => absurd h9 (by decide +kernel) | 2, _ => exact fun _ => (by rw [← q9.2]; rfl) | k + 3, hk => exact absurd hk (by omega)) dX4_init_2 kk))) f1 (fun H locs hR hL => ?_)
  refine w_aload_n hx hb dX4_init_5 rfl (lv_v hl (k := 0) rfl rfl) ?_
  obtain ⟨f1, f⟩ := f
  refine w_oinit hx hb hown hk f1 hRr q817 q211 q212 hsz dX4_init_6 (Nat.le_of_ble_eq_true rfl) ?_
  exact w_vret hx hb hr hlk hR hL dX4_init_9 f
theorem t_X4_init {G : Wd} {l : Launch} {d : Nat} {post : Option Value → VH → Prop} {xp : Nat → VH → Prop} {a0 a1 : Nat} {h : VH} (hd : 9 ≤ d)
    (f : ((kd h a0 = 12 ∧ gR h 440 a0 = a1) ∨ (kd h a0 = 21 ∧ gR h 803 a0 = a1) ∨ (kd h a0 = 24 ∧ gR h 922 a0 = a1)) ∧ (a0 ≠ 0 ∧ (post none h))) : D G l d mX4_init [vR a0, vR a1] h post xp := D_in hd rfl rfl fun V XV C => b_X4_init_0 C f
theorem b_X4_part_0 {G : Wd} {l : Launch} {d : Nat} {post : Option Value → VH → Prop} {xp : Nat → VH → Prop} {V : Nat → List (Nat × VT) → List Value → VH → Prop} {XV : Nat → List (Nat × VT) → Nat → VH → Prop} (C : Ctx G l d mX4_part post xp V XV) {i1 : Int32} {a0 : Nat} {h : VH}
    (f : post (some (.int (jI (-1)))) h) : V 0 [(0, vR a0), (1, vI i1)] [] h := by
  obtain ⟨p, e, R, s, m, args, below, meth, c, Q, ⟨hx, hb, hr, hlk, hml, hown, hk, hRr, htb, hnm, hsB, htr, hQ⟩, hV, hX⟩ := C
  rw [hV]
  intro H locs ls hR hL hl
  have hb : c.code = cX4_part := hb
  have hr : meth.sig.returnType = some .int := hr
  have hml : c.maxLocals = 2 := hml
  have hown : s.vm.findClass RX4 = some m.cls := hown
  have hl : lv_has ls 2 (lm [(0, vR a0), (1, vI i1)]) := hl
  have hsz : ls.size = c.maxLocals := hl.1.trans hml.symm
  subst hQ
  refine w_iconst hx hb dX4_part_0 ?_
  exact w_iret hx hb hr hlk hR hL dX4_part_1 f
theorem t_X4_part {G : Wd} {l : Launch} {d : Nat} {post : Option Value → VH → Prop} {xp : Nat → VH → Prop} {i1 : Int32} {a0 : Nat} {h : VH} (hd : 9 ≤ d)
    (f : post (some (.int (jI (-1)))) h) : D G l d mX4_part [vR a0, vI i1] h post xp := D_in hd rfl rfl fun V XV C => b_X4_part_0 C f
theorem b_X5_init_0 {G : Wd} {l : Launch} {d : Nat} {post : Option Value → VH → Prop} {xp : Nat → VH → Prop} {V : Nat → List (Nat × VT) → List Value → VH → Prop} {XV : Nat → List (Nat × VT) → Nat → VH → Prop} (C : Ctx G l d mX5_init post xp V XV) {a0 a1 : Nat} {h : VH}
    (f : (kd h a0 = 12) ∧ (∀ h1 : VH, h1 = sR h 440 a0 a1 → (a0 ≠ 0 ∧ D G l d mX4_init [vR a0, vR a1] h1 (fun v h2 => v = none ∧ (post none h2)) xp))) : V 0 [(0, vR a0), (1, vR a1)] [] h := by
  obtain ⟨p, e, R, s, m, args, below, meth, c, Q, ⟨hx, hb, hr, hlk, hml, hown, hk, hRr, htb, hnm, hsB, htr, hQ⟩, hV, hX⟩ := C
  rw [hV]
  intro H locs ls hR hL hl
  have hb : c.code = cX5_init := hb
  have hr : meth.sig.returnType = none := hr
  have hml : c.maxLocals = 2 := hml
  have hown : s.vm.findClass RX5 = some m.cls := hown
  have hl : lv_has ls 2 (lm [(0, vR a0), (1, vR a1)]) := hl
  have hsz : ls.size = c.maxLocals := hl.1.trans hml.symm
  subst hQ
  refine w_aload_n hx hb dX5_init_0 rfl (lv_v hl (k := 0) rfl rfl) ?_
  refine w_aload_n hx hb dX5_init_1 rfl (lv_v hl (k := 1) rfl rfl) ?_
  obtain ⟨f1, f⟩ := f
  refine w_putF (i := 11) (k := 0) (c1 := cR (h.1 a0) 440 a1) hx hb hown hk hR hL clk_X5 f1 (by decide) (by decide) q818 (fun _ h9 => h9) rfl hnm rfl (vr_fit rfl _) rfl (pvR clk_X5 (by decide) rfl rfl) dX5_init_2 (fun H locs hR hL => ?_)
  obtain ⟨h1, eh1⟩ : ∃ z : VH, z = sR h 440 a0 a1 := ⟨_, rfl⟩
  have hR : Rp G h1 H := by rw [eh1]; exact hR
  have f := f h1 eh1
  refine w_aload_n hx hb dX5_init_5 rfl (lv_v hl (k := 0) rfl rfl) ?_
  refine w_aload_n hx hb dX5_init_6 rfl (lv_v hl (k := 1) rfl rfl) ?_
  refine w_call (mi := mX4_init) (As := [vR a0, vR a1]) (rest := []) (len := 3) hk hR hL hsz hsB htr hRr (cok_IN (argsL := [vr a1]) hx hb hown hk f.1 rfl q814 q815 q816 kX4_init.1 kX4_init.2 rfl dX5_init_7) f.2 wX4_init iX4_init (by decide) (cat_sum _ (Nat.le_of_ble_eq_true rfl)) rfl (fun v h2 H locs f hR hL => ?_) (fun q h9 H locs hp hR hL => x_out hown hlk hR hL (fun x9 h9 => by rw [htb] at h9; exact absurd h9 List.not_mem_nil) ⟨hp.1, hp.2.1⟩ hp.2.2)
  obtain ⟨rfl, f⟩ := f
  show Wn p l e R s m args below meth c H locs _ (F0 m 10 ls [])
  exact w_vret hx hb hr hlk hR hL dX5_init_10 f
theorem t_X5_init {G : Wd} {l : Launch} {d : Nat} {post : Option Value → VH → Prop} {xp : Nat → VH → Prop} {a0 a1 : Nat} {h : VH} (hd : 9 ≤ d)
    (f : (kd h a0 = 12) ∧ (∀ h1 : VH, h1 = sR h 440 a0 a1 → (a0 ≠ 0 ∧ D G l (d - 1) mX4_init [vR a0, vR a1] h1 (fun v h2 => v = none ∧ (post none h2)) xp))) : D G l d mX5_init [vR a0, vR a1] h post xp := D_in hd rfl rfl fun V XV C => b_X5_init_0 C f
theorem b_X5_kind_0 {G : Wd} {l : Launch} {d : Nat} {post : Option Value → VH → Prop} {xp : Nat → VH → Prop} {V : Nat → List (Nat × VT) → List Value → VH → Prop} {XV : Nat → List (Nat × VT) → Nat → VH → Prop} (C : Ctx G l d mX5_kind post xp V XV) {a0 : Nat} {h : VH}
    (f : post (some (.int (jI 3))) h) : V 0 [(0, vR a0)] [] h := by
  obtain ⟨p, e, R, s, m, args, below, meth, c, Q, ⟨hx, hb, hr, hlk, hml, hown, hk, hRr, htb, hnm, hsB, htr, hQ⟩, hV, hX⟩ := C
  rw [hV]
  intro H locs ls hR hL hl
  have hb : c.code = cX5_kind := hb
  have hr : meth.sig.returnType = some .int := hr
  have hml : c.maxLocals = 1 := hml
  have hown : s.vm.findClass RX5 = some m.cls := hown
  have hl : lv_has ls 1 (lm [(0, vR a0)]) := hl
  have hsz : ls.size = c.maxLocals := hl.1.trans hml.symm
  subst hQ
  refine w_iconst hx hb dX5_kind_0 ?_
  exact w_iret hx hb hr hlk hR hL dX5_kind_1 f
theorem t_X5_kind {G : Wd} {l : Launch} {d : Nat} {post : Option Value → VH → Prop} {xp : Nat → VH → Prop} {a0 : Nat} {h : VH} (hd : 9 ≤ d)
    (f : post (some (.int (jI 3))) h) : D G l d mX5_kind [vR a0] h post xp := D_in hd rfl rfl fun V XV C => b_X5_kind_0 C f
theorem b_X5_run_0 {G : Wd} {l : Launch} {d : Nat} {post : Option Value → VH → Prop} {xp : Nat → VH → Prop} {V : Nat → List (Nat × VT) → List Value → VH → Prop} {XV : Nat → List (Nat × VT) → Nat → VH → Prop} (C : Ctx G l d mX5_run post xp V XV) {a0 : Nat} {h : VH}
    (f : (kd h a0 = 12) ∧ ((kd h (gR h 440 a0) = 1) ∧ ((kd h (gR h 0 (gR h 440 a0)) = 2) ∧ D G l d mX2_pass [vR (gR h 0 (gR h 440 a0))] h (fun v h1 => v = none ∧ (post none h1)) xp))) : V 0 [(0, vR a0)] [] h := by
  obtain ⟨p, e, R, s, m, args, below, meth, c, Q, ⟨hx, hb, hr, hlk, hml, hown, hk, hRr, htb, hnm, hsB, htr, hQ⟩, hV, hX⟩ := C
  rw [hV]
  intro H locs ls hR hL hl
  have hb : c.code = cX5_run := hb
  have hr : meth.sig.returnType = none := hr
  have hml : c.maxLocals = 1 := hml
  have hown : s.vm.findClass RX5 = some m.cls := hown
  have hl : lv_has ls 1 (lm [(0, vR a0)]) := hl
  have hsz : ls.size = c.maxLocals := hl.1.trans hml.symm
  subst hQ
  refine w_aload_n hx hb dX5_run_0 rfl (lv_v hl (k := 0) rfl rfl) ?_
  obtain ⟨f1, f⟩ := f
  refine w_get (i := 11) (k := 0) (v := vr (gR h 440 a0)) hx hb hown hk hR clk_X5 f1 (by decide) (by decide) q818 (fun _ h9 => h9) rfl dX5_run_1 ?_
  obtain ⟨f1, f⟩ := f
  refine w_getN (i := 0) (k := 0) (v := vr (gR h 0 (gR h 440 a0))) hx hb hown hk hR clk_X1 f1 (by decide) (by decide) q859 (fun _ h9 => h9) rfl dX5_run_4 ?_
  refine w_call (mi := mX2_pass) (As := [vR (gR h 0 (gR h 440 a0))]) (rest := []) (len := 3) hk hR hL hsz hsB htr hRr (cok_V (i := 1) (C := RX2) (argsL := []) hx hb hown hk hR f.1 (by decide) rfl q2423 q2189 q2190 q2191 kX2_pass.1 kX2_pass.2 rfl dX5_run_7) f.2 wX2_pass iX2_pass (by decide) (cat_sum _ (Nat.le_of_ble_eq_true rfl)) rfl (fun v h1 H locs f hR hL => ?_) (fun q h9 H locs hp hR hL => x_out hown hlk hR hL (fun x9 h9 => by rw [htb] at h9; exact absurd h9 List.not_mem_nil) ⟨hp.1, hp.2.1⟩ hp.2.2)
  obtain ⟨rfl, f⟩ := f
  show Wn p l e R s m args below meth c H locs _ (F0 m 10 ls [])
  exact w_vret hx hb hr hlk hR hL dX5_run_10 f
theorem t_X5_run {G : Wd} {l : Launch} {d : Nat} {post : Option Value → VH → Prop} {xp : Nat → VH → Prop} {a0 : Nat} {h : VH} (hd : 9 ≤ d)
    (f : (kd h a0 = 12) ∧ ((kd h (gR h 440 a0) = 1) ∧ ((kd h (gR h 0 (gR h 440 a0)) = 2) ∧ D G l (d - 1) mX2_pass [vR (gR h 0 (gR h 440 a0))] h (fun v h1 => v = none ∧ (post none h1)) xp))) : D G l d mX5_run [vR a0] h post xp := D_in hd rfl rfl fun V XV C => b_X5_run_0 C f
