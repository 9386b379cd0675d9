/-! the classes by number, their fields by number -/
def FX1 : Nat → FieldType × Nat := fun k => match k with
  | 0 => (.object "HintTeam$Table", 0)
  | 1 => (.object "java/util/ArrayDeque", 1)
  | 2 => (.array (.object "HintTeam$Table"), 2)
  | 3 => (.object "java/util/BitSet", 3)
  | 4 => (.object "HintTeam$Move", 4)
  | 5 => (.object "HintTeam$Explorer", 5)
  | 6 => (.array .byte, 6)
  | 7 => (.int, 7)
  | 8 => (.int, 8)
  | 9 => (.int, 9)
  | _ => (.object "java/lang/StringBuilder", 10)
def FX2 : Nat → FieldType × Nat := fun k => match k with
  | 0 => (.object "HintTeam$Rules", 40)
  | 1 => (.object "java/util/List", 41)
  | 2 => (.object "java/util/LinkedList", 42)
  | 3 => (.array .int, 43)
  | 4 => (.array .int, 44)
  | 5 => (.array (.array .int), 45)
  | 6 => (.array (.array .int), 46)
  | 7 => (.int, 47)
  | 8 => (.int, 48)
  | 9 => (.int, 49)
  | 10 => (.int, 50)
  | 11 => (.int, 51)
  | _ => (.int, 52)
def FX3 : Nat → FieldType × Nat := fun k => match k with
  | 0 => (.int, 80)
  | 1 => (.int, 81)
  | 2 => (.int, 82)
  | 3 => (.int, 83)
  | 4 => (.int, 84)
  | 5 => (.int, 85)
  | 6 => (.int, 86)
  | 7 => (.object "java/util/List", 87)
  | 8 => (.object "java/util/TreeMap", 88)
  | _ => (.array (.array .int), 89)
def FJ2 : Nat → FieldType × Nat := fun k => match k with
  | 0 => (.int, 120)
  | 1 => (.array (.object "java/lang/Object"), 121)
  | _ => (.int, 122)
def FJ4 : Nat → FieldType × Nat := fun k => match k with
  | 0 => (.object "java/util/Set", 160)
  | 1 => (.object "java/util/Collection", 161)
  | 2 => (.object "java/util/Comparator", 162)
  | 3 => (.object "java/util/TreeMap$Entry", 163)
  | 4 => (.int, 164)
  | 5 => (.int, 165)
  | 6 => (.object "java/util/TreeMap$EntrySet", 166)
  | 7 => (.object "java/util/TreeMap$KeySet", 167)
  | _ => (.object "java/util/NavigableMap", 168)
def FJ10 : Nat → FieldType × Nat := fun k => match k with
  | 0 => (.array .byte, 200)
  | 1 => (.byte, 201)
  | 2 => (.boolean, 202)
  | _ => (.int, 203)
def FJ11 : Nat → FieldType × Nat := fun k => match k with
  | 0 => (.array .byte, 240)
  | 1 => (.byte, 241)
  | 2 => (.int, 242)
  | _ => (.boolean, 243)
def FJ19 : Nat → FieldType × Nat := fun k => match k with
  | _ => (.int, 280)
def FJ21 : Nat → FieldType × Nat := fun k => match k with
  | 0 => (.int, 120)
  | 1 => (.int, 321)
  | 2 => (.object "java/util/LinkedList$Node", 322)
  | _ => (.object "java/util/LinkedList$Node", 323)
def FJ22 : Nat → FieldType × Nat := fun k => match k with
  | 0 => (.array (.object "java/lang/Object"), 360)
  | 1 => (.int, 361)
  | _ => (.int, 362)
def FJ23 : Nat → FieldType × Nat := fun k => match k with
  | 0 => (.array .long, 400)
  | 1 => (.int, 401)
  | _ => (.boolean, 402)
def UX5 : u_T := fun k => match k with
  | _ => ("HintTeam$2", "this$0", "LHintTeam;", true)
def FX5 : Nat → FieldType × Nat := fun k => match k with
  | _ => (.object "HintTeam", 440)
def FX6 : Nat → FieldType × Nat := fun k => match k with
  | 0 => (.array (.array .long), 480)
  | 1 => (.array .long, 481)
  | 2 => (.array .long, 482)
  | 3 => (.array .int, 483)
  | 4 => (.int, 484)
  | 5 => (.int, 485)
  | _ => (.object "HintTeam", 486)
def FX7 : Nat → FieldType × Nat := fun k => match k with
  | 0 => (.array .int, 520)
  | 1 => (.array .int, 521)
  | 2 => (.array .int, 522)
  | 3 => (.array .int, 523)
  | 4 => (.array .int, 524)
  | 5 => (.array .boolean, 525)
  | 6 => (.int, 526)
  | 7 => (.int, 527)
  | 8 => (.array .byte, 528)
  | 9 => (.int, 529)
  | 10 => (.int, 530)
  | 11 => (.int, 531)
  | 12 => (.int, 532)
  | 13 => (.int, 533)
  | 14 => (.int, 534)
  | 15 => (.int, 535)
  | 16 => (.int, 536)
  | 17 => (.int, 537)
  | 18 => (.array .int, 538)
  | 19 => (.array .long, 539)
  | 20 => (.array .int, 540)
  | 21 => (.array .int, 541)
  | 22 => (.int, 542)
  | 23 => (.array .long, 543)
  | 24 => (.array .int, 544)
  | 25 => (.int, 545)
  | 26 => (.int, 546)
  | 27 => (.int, 547)
  | 28 => (.int, 548)
  | 29 => (.array .byte, 549)
  | _ => (.int, 550)
def FX8 : Nat → FieldType × Nat := fun k => match k with
  | 0 => (.object "HintTeam$Rules", 560)
  | 1 => (.int, 561)
  | 2 => (.int, 562)
  | 3 => (.int, 563)
  | 4 => (.int, 564)
  | _ => (.object "HintTeam", 565)
def FX9 : Nat → FieldType × Nat := fun k => match k with
  | 0 => (.object "java/lang/Throwable", 600)
  | 1 => (.array (.object "java/lang/StackTraceElement"), 601)
  | 2 => (.object "java/util/List", 602)
  | 3 => (.object "java/lang/String", 603)
  | 4 => (.object "java/lang/Object", 604)
  | 5 => (.int, 605)
  | 6 => (.int, 606)
  | _ => (.int, 607)
def FX10 : Nat → FieldType × Nat := fun k => match k with
  | 0 => (.int, 640)
  | 1 => (.int, 641)
  | _ => (.int, 642)
def FJ25 : Nat → FieldType × Nat := fun k => match k with
  | 0 => (.object "java/lang/Object", 680)
  | 1 => (.object "java/util/LinkedList$Node", 681)
  | _ => (.object "java/util/LinkedList$Node", 682)
def FJ28 : Nat → FieldType × Nat := fun k => match k with
  | 0 => (.int, 720)
  | 1 => (.int, 721)
  | 2 => (.int, 722)
  | _ => (.object "java/util/ArrayList", 723)
def FJ31 : Nat → FieldType × Nat := fun k => match k with
  | 0 => (.object "java/util/LinkedList$Node", 760)
  | 1 => (.object "java/util/LinkedList$Node", 761)
  | 2 => (.int, 762)
  | 3 => (.int, 763)
  | _ => (.object "java/util/LinkedList", 764)
def UX11 : u_T := fun k => match k with
  | 0 => ("HintTeam$Hint", "player", "I", true)
  | 1 => ("HintTeam$Hint", "word", "I", true)
  | 2 => ("HintTeam$Hint", "value", "I", true)
  | _ => ("HintTeam$Hint", "this$0", "LHintTeam;", true)
def FX11 : Nat → FieldType × Nat := fun k => match k with
  | 0 => (.int, 800)
  | 1 => (.int, 801)
  | 2 => (.int, 802)
  | _ => (.object "HintTeam", 803)
def FJ35 : Nat → FieldType × Nat := fun k => match k with
  | 0 => (.object "java/lang/Object", 840)
  | 1 => (.object "java/lang/Object", 841)
  | 2 => (.object "java/util/TreeMap$Entry", 842)
  | 3 => (.object "java/util/TreeMap$Entry", 843)
  | 4 => (.object "java/util/TreeMap$Entry", 844)
  | _ => (.boolean, 845)
def FX12 : Nat → FieldType × Nat := fun k => match k with
  | 0 => (.object "HintTeam$Card", 880)
  | 1 => (.int, 881)
  | 2 => (.int, 882)
  | _ => (.boolean, 883)
def UX13 : u_T := fun k => match k with
  | 0 => ("HintTeam$1", "val$itsKind", "I", true)
  | 1 => ("HintTeam$1", "val$place", "I", true)
  | _ => ("HintTeam$1", "this$0", "LHintTeam;", true)
def FX13 : Nat → FieldType × Nat := fun k => match k with
  | 0 => (.int, 920)
  | 1 => (.int, 921)
  | _ => (.object "HintTeam", 922)
def FX14 : Nat → FieldType × Nat := fun k => match k with
  | 0 => (.int, 960)
  | 1 => (.int, 961)
  | 2 => (.int, 962)
  | _ => (.object "HintTeam", 963)
def UJ27 : u_T := fun k => match k with
  | _ => ("", "", "", false)
def FJ27 : Nat → FieldType × Nat := fun k => match k with
  | _ => (.int, 0)
def UJ8 : u_T := fun k => match k with
  | _ => ("", "", "", false)
def FJ8 : Nat → FieldType × Nat := fun k => match k with
  | _ => (.int, 0)
def CL : List vw_C := [(RX1, TX1, 11), (RX2, TX2, 13), (RX3, TX3, 10), (RJ2, TJ2, 3), (RJ4, TJ4, 9), (RJ10, TJ10, 4), (RJ11, TJ11, 4), (RJ19, TJ19, 1), (RJ21, TJ21, 4), (RJ22, TJ22, 3), (RJ23, TJ23, 3), (RX5, UX5, 1), (RX6, TX6, 7), (RX7, TX7, 31), (RX8, TX8, 6), (RX9, TX9, 8), (RX10, TX10, 3), (RJ25, TJ25, 3), (RJ28, TJ28, 4), (RJ31, TJ31, 5), (RX11, UX11, 4), (RJ35, TJ35, 6), (RX12, TX12, 4), (RX13, UX13, 3), (RX14, TX14, 4), (RJ27, UJ27, 0), (RJ8, UJ8, 0), (RJ11, TJ11, 4), (RJ19, TJ19, 1)]
def CFL : List (Nat → FieldType × Nat) := [FX1, FX2, FX3, FJ2, FJ4, FJ10, FJ11, FJ19, FJ21, FJ22, FJ23, FX5, FX6, FX7, FX8, FX9, FX10, FJ25, FJ28, FJ31, FX11, FJ35, FX12, FX13, FX14, FJ27, FJ8, FJ11, FJ19]
def TYS : List FieldType := [.int, .byte, .boolean, .long, .object "java/lang/Object", .object "HintTeam$Table", .array .int, .array .long, .object "java/lang/Integer"]
theorem CL_ob : ∀ i, i < 29 → ∃ C, (CL[i]?).map (·.1) = some C ∧ Cond.castable C "java/lang/Object" ∈ lw_tbl := by
  intro i hi
  match i, hi with
  | 0, _ => exact ⟨_, rfl, q3625⟩
  | 1, _ => exact ⟨_, rfl, q3624⟩
  | 2, _ => exact ⟨_, rfl, q3626⟩
  | 3, _ => exact ⟨_, rfl, q3627⟩
  | 4, _ => exact ⟨_, rfl, q3628⟩
  | 5, _ => exact ⟨_, rfl, q3630⟩
  | 6, _ => exact ⟨_, rfl, q3631⟩
  | 7, _ => exact ⟨_, rfl, q3649⟩
  | 8, _ => exact ⟨_, rfl, q3632⟩
  | 9, _ => exact ⟨_, rfl, q3633⟩
  | 10, _ => exact ⟨_, rfl, q3634⟩
  | 11, _ => exact ⟨_, rfl, q3635⟩
  | 12, _ => exact ⟨_, rfl, q3636⟩
  | 13, _ => exact ⟨_, rfl, q3637⟩
  | 14, _ => exact ⟨_, rfl, q3638⟩
  | 15, _ => exact ⟨_, rfl, q3639⟩
  | 16, _ => exact ⟨_, rfl, q3641⟩
  | 17, _ => exact ⟨_, rfl, q3642⟩
  | 18, _ => exact ⟨_, rfl, q3644⟩
  | 19, _ => exact ⟨_, rfl, q3647⟩
  | 20, _ => exact ⟨_, rfl, q3656⟩
  | 21, _ => exact ⟨_, rfl, q3651⟩
  | 22, _ => exact ⟨_, rfl, q3652⟩
  | 23, _ => exact ⟨_, rfl, q3654⟩
  | 24, _ => exact ⟨_, rfl, q3655⟩
  | 25, _ => exact ⟨_, rfl, q3643⟩
  | 26, _ => exact ⟨_, rfl, q3629⟩
  | 27, _ => exact ⟨_, rfl, q3631⟩
  | 28, _ => exact ⟨_, rfl, q3649⟩
  | i + 29, hi => exact absurd hi (by omega)
/-! ===== THE VIRTUAL HEAP: a cell is (class tag, ints by field or place, longs, references as numbers (0: null), length); a heap is (cells, size + 1, slots) ===== -/
abbrev VC : Type := Nat × (Nat → Int32) × (Nat → Int64) × (Nat → Nat) × Nat
abbrev VH : Type := (Nat → VC) × Nat × Nat
def kd (h : VH) (a : Nat) : Nat := (h.1 a).1
def gI (h : VH) (f a : Nat) : Int32 := (h.1 a).2.1 f
def gL (h : VH) (f a : Nat) : Int64 := (h.1 a).2.2.1 f
def gR (h : VH) (f a : Nat) : Nat := (h.1 a).2.2.2.1 f
def ln (h : VH) (a : Nat) : Nat := (h.1 a).2.2.2.2
def hz (h : VH) : Nat := h.2.1
def hs (h : VH) : Nat := h.2.2
def cI (c : VC) (f : Nat) (v : Int32) : VC := (c.1, (fun g => if g = f then v else c.2.1 g), c.2.2.1, c.2.2.2.1, c.2.2.2.2)
def cL (c : VC) (f : Nat) (v : Int64) : VC := (c.1, c.2.1, (fun g => if g = f then v else c.2.2.1 g), c.2.2.2.1, c.2.2.2.2)
def cR (c : VC) (f : Nat) (v : Nat) : VC := (c.1, c.2.1, c.2.2.1, (fun g => if g = f then v else c.2.2.2.1 g), c.2.2.2.2)
def hset (h : VH) (a : Nat) (c : VC) : VH := (fun b => if b = a then c else h.1 b, h.2.1, h.2.2)
def sI (h : VH) (f a : Nat) (v : Int32) : VH := hset h a (cI (h.1 a) f v)
def sL (h : VH) (f a : Nat) (v : Int64) : VH := hset h a (cL (h.1 a) f v)
def sR (h : VH) (f a : Nat) (v : Nat) : VH := hset h a (cR (h.1 a) f v)
def vc0 (c n : Nat) : VC := (c, fun _ => 0, fun _ => 0, fun _ => 0, n)
/-- a new cell at hz h: tag c, length n, N slots -/
def al (h : VH) (c n N : Nat) : VH := (fun b => if b = h.2.1 then vc0 c n else h.1 b, h.2.1 + 1, h.2.2 + N)
def vr (a : Nat) : Value := match a with
  | 0 => .null
  | a + 1 => .ref a
def fv (ty : FieldType) (f : Nat) (c : VC) : Value := match ty with
  | .long => .long (c.2.2.1 f)
  | .object _ => vr (c.2.2.2.1 f)
  | .array _ => vr (c.2.2.2.1 f)
  | .float => .float 0
  | .double => .double 0
  | _ => .int (c.2.1 f)
theorem vr_cat (a : Nat) : (vr a).category = 1 := by cases a <;> rfl
/-- a value told by its type -/
abbrev VT : Type := Int32 ⊕ (Int64 ⊕ Nat)
abbrev vI (x : Int32) : VT := .inl x
abbrev vJ (x : Int64) : VT := .inr (.inl x)
abbrev vR (a : Nat) : VT := .inr (.inr a)
def tv (v : VT) : Value := match v with
  | .inl x => .int x
  | .inr (.inl x) => .long x
  | .inr (.inr a) => vr a
def tcat (v : VT) : Nat := match v with
  | .inl _ => 1
  | .inr (.inl _) => 2
  | .inr (.inr _) => 1
theorem tv_cat (v : VT) : (tv v).category = tcat v := by
  rcases v with x | x | a
  · rfl
  · rfl
  · exact vr_cat a
def lm (L : List (Nat × VT)) : List (Nat × Value) := L.map fun q => (q.1, tv q.2)
def lvt : Nat → List VT → List (Nat × VT)
  | _, [] => []
  | i, v :: vs => (i, v) :: lvt (if tcat v = 2 then i + 2 else i + 1) vs
theorem lm_lvt (av : List VT) : ∀ i, lm (lvt i av) = lv_args i (av.map tv) := by
  induction av with
  | nil => intro i; rfl
  | cons v vs ih =>
    intro i
    show (i, tv v) :: lm (lvt (if tcat v = 2 then i + 2 else i + 1) vs) = (i, tv v) :: lv_args (if (tv v).category = 2 then i + 2 else i + 1) (vs.map tv)
    rw [ih, tv_cat]
def st1 (i : Nat) (L : List (Nat × VT)) : List (Nat × VT) := L.filter fun q => !(q.1 == i) && !(q.1 + 1 == i && tcat q.2 == 2)
def st2 (i : Nat) (L : List (Nat × VT)) : List (Nat × VT) := L.filter fun q => !(q.1 == i) && (!(q.1 == i + 1) && !(q.1 + 1 == i && tcat q.2 == 2))
theorem lm_st1 (i : Nat) (L : List (Nat × VT)) : (lm L).filter (fun q => !(q.1 == i) && !(q.1 + 1 == i && q.2.category == 2)) = lm (st1 i L) := by
  unfold lm st1
  rw [List.filter_map]
  congr 1
  apply List.filter_congr
  intro q _
  simp only [Function.comp, tv_cat]
theorem lm_st2 (i : Nat) (L : List (Nat × VT)) : (lm L).filter (fun q => !(q.1 == i) && (!(q.1 == i + 1) && !(q.1 + 1 == i && q.2.category == 2))) = lm (st2 i L) := by
  unfold lm st2
  rw [List.filter_map]
  congr 1
  apply List.filter_congr
  intro q _
  simp only [Function.comp, tv_cat]
theorem cat_sum (l : List Value) {n : Nat} (h : 2 * l.length ≤ n) : (l.map fun v => v.category).sum ≤ n := by
  refine Nat.le_trans ?_ h
  clear h
  induction l with
  | nil => exact Nat.le_refl _
  | cons v t ih =>
    simp only [List.map_cons, List.sum_cons, List.length_cons]
    have : v.category ≤ 2 := by cases v <;> simp [Value.category]
    omega
def tsl (H : Heap) : Nat := H.foldl (fun n c => n + c.slots.size) 0
/-- the world: the law's entry state, the layout of classes, the array classes, static objects -/
abbrev Wd : Type := State × va_G × (Nat → ClassId) × (Nat → Nat)
def wF (G : Wd) : State := G.1
def wD (G : Wd) : va_G := G.2.1
def wT (G : Wd) : Nat → ClassId := G.2.2.1
def wA (G : Wd) : Nat → Nat := G.2.2.2
def wB (G : Wd) : Nat := (wF G).heap.size
def wC (G : Wd) : Nat := (wF G).heap.size + 603072
def wS (G : Wd) : Nat := tsl (wF G).heap + 7198826
def STL (G : Wd) : List (String × String × String × Value) := [("java/lang/String", "COMPACT_STRINGS", "Z", .int 1), ("java/util/ArrayList", "DEFAULTCAPACITY_EMPTY_ELEMENTDATA", "[Ljava/lang/Object;", vr (wA G 0)), ("java/util/ArrayList", "EMPTY_ELEMENTDATA", "[Ljava/lang/Object;", vr (wA G 1)), ("java/lang/Integer$IntegerCache", "high", "I", .int 127), ("java/lang/Integer$IntegerCache", "cache", "[Ljava/lang/Integer;", vr (wA G 2)), ("java/lang/Integer", "DigitOnes", "[B", vr (wA G 3)), ("java/util/BitSet", "$assertionsDisabled", "Z", .int 1), ("java/lang/Throwable", "UNASSIGNED_STACK", "[Ljava/lang/StackTraceElement;", vr (wA G 4)), ("java/lang/Throwable", "SUPPRESSED_SENTINEL", "Ljava/util/List;", vr (wA G 5)), ("jdk/internal/util/Preconditions", "SIOOBE_FORMATTER", "Ljava/util/function/BiFunction;", vr (wA G 6)), ("java/lang/Integer", "DigitTens", "[B", vr (wA G 7))]
def SCL (G : Wd) : List (String × Nat × String × Nat) := [("HintTeamModel", 145, "game", wA G 24), ("HintTeamModel", 154, "deck", wA G 23), ("HintTeamModel", 159, "tokens", wA G 28), ("HintTeamModel", 161, "lives", wA G 25), ("HintTeamModel", 163, "color", wA G 22), ("HintTeamModel", 169, "rank", wA G 26), ("HintTeamModel", 171, "shuffle", wA G 27), ("HintTeam$Parser", 151, "game", wA G 24), ("HintTeam$Parser", 162, "deck", wA G 23), ("HintTeam$Parser", 163, "tokens", wA G 28), ("HintTeam$Parser", 165, "lives", wA G 25), ("HintTeam$Parser", 167, "color", wA G 22), ("HintTeam$Parser", 169, "rank", wA G 26), ("HintTeam$Parser", 171, "shuffle", wA G 27), ("HintTeam$Card", 22, "", wA G 20), ("HintTeam$Held", 62, "", wA G 20), ("HintTeam$Held", 77, "?", wA G 21)]
def NCL : List (String × String) := []
/-- how many slots such an object has (of the classes below HintTeam$Move: a field of Move's lies outside of the tables) -/
def szO (i : Nat) : Nat := if i = 11 then 2 else if i = 20 then 5 else if i = 23 then 4 else 0
def szAt (i a : Nat) (H : Heap) : Prop := szO i = 0 ∨ ∃ cell : Cell, H[a]? = some cell ∧ szO i ≤ cell.slots.size
def objAt (G : Wd) (c : VC) (i a : Nat) (H : Heap) : Prop := ∃ (r : vw_C) (F : Nat → FieldType × Nat), CL[i]? = some r ∧ CFL[i]? = some F ∧ t_OB a ((wD G).1 i) r.2.2 ((wD G).2 i) H (fun k => fv (F k).1 (F k).2 c) ∧ szAt i a H
def arrAt (G : Wd) (c : VC) (t a : Nat) (H : Heap) : Prop := ∃ ty : FieldType, TYS[t]? = some ty ∧ H[a]? = some (arrV (wT G t) c.2.2.2.2 (fun j => fv ty j c))
def Rp (G : Wd) (h : VH) (H : Heap) : Prop :=
  H.size + 1 = h.2.1 ∧ tsl H = h.2.2 ∧ H.size ≤ wC G ∧ tsl H ≤ wS G ∧ wB G ≤ H.size ∧ (∀ q : Nat, q < wB G → H[q]? = (wF G).heap[q]?) ∧ (h.1 0).1 = 0 ∧ (∀ a : Nat, H.size ≤ a → (h.1 (a + 1)).1 = 0) ∧
  (∀ a i : Nat, (h.1 (a + 1)).1 = i + 1 → i < 100 → objAt G (h.1 (a + 1)) i a H ∧ (i < 27 → wB G ≤ a)) ∧
  (∀ a t : Nat, (h.1 (a + 1)).1 = 200 + t → t < 200 → arrAt G (h.1 (a + 1)) (t % 100) a H ∧ (t < 100 → wB G ≤ a))
theorem objAt_kept {G : Wd} {c : VC} {i a : Nat} {H H1 : Heap} (h : objAt G c i a H) (e : H1[a]? = H[a]?) : objAt G c i a H1 := by
  obtain ⟨r, F, h1, h2, h3, h4⟩ := h
  exact ⟨r, F, h1, h2, h3.kept e, h4.elim Or.inl (fun ⟨c9, g1, g2⟩ => Or.inr ⟨c9, by rw [e]; exact g1, g2⟩)⟩
theorem arrAt_kept {G : Wd} {c : VC} {t a : Nat} {H H1 : Heap} (h : arrAt G c t a H) (e : H1[a]? = H[a]?) : arrAt G c t a H1 := by
  obtain ⟨ty, h1, h2⟩ := h
  exact ⟨ty, h1, by rw [e]; exact h2⟩
theorem objAt_lt {G : Wd} {c : VC} {i a : Nat} {H : Heap} (h : objAt G c i a H) : a < H.size := by
  obtain ⟨r, F, h1, h2, ⟨cell, h3, -⟩, -⟩ := h
  exact (Array.getElem?_eq_some_iff.mp h3).1
theorem arrAt_lt {G : Wd} {c : VC} {t a : Nat} {H : Heap} (h : arrAt G c t a H) : a < H.size := by
  obtain ⟨ty, h1, h2⟩ := h
  exact (Array.getElem?_eq_some_iff.mp h2).1
/-! slots in all -/
theorem tsl_list (H : Heap) : tsl H = (H.toList.map fun c => c.slots.size).sum := by
  unfold tsl
  rw [← Array.foldl_toList]
  have key : ∀ (l : List Cell) (n : Nat), l.foldl (fun n c => n + c.slots.size) n = n + (l.map fun c => c.slots.size).sum := by
    intro l
    induction l with
    | nil => intro n; simp
    | cons x t ih => intro n; simp only [List.foldl_cons, List.map_cons, List.sum_cons]; rw [ih]; omega
  rw [key]; simp
theorem tsl_same {H H1 : Heap} (hs : H1.size = H.size) (h : ∀ q : Nat, (H1[q]?).map (fun c => c.slots.size) = (H[q]?).map (fun c => c.slots.size)) : tsl H1 = tsl H := by
  rw [tsl_list, tsl_list]
  congr 1
  apply List.ext_getElem?
  intro i
  rw [List.getElem?_map, List.getElem?_map, Array.getElem?_toList, Array.getElem?_toList]
  exact h i
theorem tsl_upd {H H1 : Heap} {a : Nat} {c0 c1 : Cell} (hs : H1.size = H.size) (h0 : H[a]? = some c0) (h1 : H1[a]? = some c1) (hz : c1.slots.size = c0.slots.size) (ho : ∀ q : Nat, q ≠ a → H1[q]? = H[q]?) : tsl H1 = tsl H := by
  refine tsl_same hs fun q => ?_
  by_cases hq : q = a
  · subst hq; rw [h0, h1]; simp [hz]
  · rw [ho q hq]
theorem tsl_new {H H1 : Heap} {c1 : Cell} (hs : H1.size = H.size + 1) (h1 : H1[H.size]? = some c1) (ho : ∀ q : Nat, q < H.size → H1[q]? = H[q]?) : tsl H1 = tsl H + c1.slots.size := by
  have e : H1.toList = H.toList ++ [c1] := by
    apply List.ext_getElem?
    intro i
    rw [Array.getElem?_toList]
    by_cases hi : i < H.size
    · rw [ho i hi, List.getElem?_append_left (by rw [Array.length_toList]; exact hi), Array.getElem?_toList]
    · by_cases hj : i = H.size
      · subst hj; rw [h1, List.getElem?_append_right (by rw [Array.length_toList]; exact Nat.le_refl _), Array.length_toList]; simp
      · rw [Array.getElem?_eq_none (by omega), List.getElem?_eq_none (by simp; omega)]
  rw [tsl_list, tsl_list, e]
  simp
/-! ===== what is known of the tables: all of it at the law's entry; later tables are warmer ===== -/
def tysL (G : Wd) : List (ClassId × FieldType) := [(wT G 0, .int), (wT G 1, .byte), (wT G 2, .boolean), (wT G 3, .long), (wT G 4, .object "java/lang/Object"), (wT G 5, .object "HintTeam$Table"), (wT G 6, .array .int), (wT G 7, .array .long), (wT G 8, .object "java/lang/Integer")]
def GOK (G : Wd) : Prop :=
  (∃ A0 : Array Value, ∀ w ∈ lw_tbl, w.before A0 (wF G) = true) ∧ va_K (wD G) CL (tysL G) (wF G) ∧
  (∃ (k6 k7 : Class), (wF G).vm.classes[wT G 6]? = some k6 ∧ k6.kind = .array (wT G 0) (.array .int) ∧ (wF G).vm.classes[wT G 7]? = some k7 ∧ k7.kind = .array (wT G 3) (.array .long)) ∧
  (∀ x ∈ STL G, va_Z x.1 x.2.1 x.2.2.1 x.2.2.2 (fun q => wB G ≤ q) (wF G) (wF G).heap) ∧ (∀ x ∈ SCL G, vk_R x.1 x.2.1 x.2.2.1 x.2.2.2 (wF G)) ∧
  (∀ x ∈ NCL, va_Nc x.1 x.2 (wF G))
def KN (G : Wd) (U : State) : Prop := GOK G ∧ (wF G).WarmedH U.vm
theorem KN.warm {G : Wd} {s U : State} (h : KN G s) (hW : s.WarmedH U.vm) : KN G U := ⟨h.1, h.2.trans hW⟩
theorem KN.w {G : Wd} {s : State} (h : KN G s) {w : Cond} (hw : w ∈ lw_all) (args : Array Value) : w.before args s = true := by
  obtain ⟨A0, h0⟩ := h.1.1
  exact word_at h.2 (good_of_word (List.mem_filter.mp hw).2) (h0 w (lw_all_tbl hw))
theorem KN.ws {G : Wd} {s : State} (h : KN G s) (args : Array Value) : ∀ w ∈ lw_all, w.before args s = true := fun _ hw => h.w hw args
theorem KN.k {G : Wd} {s : State} (h : KN G s) : va_K (wD G) CL (tysL G) s := va_K.moved h.2.alike h.1.2.1
theorem KN.nF {G : Wd} {s : State} (h : KN G s) {a : String} {i : Nat} {b n d u : String} (hw : Cond.fieldLinkNest a i b n d u ∈ lw_tbl) (args : Array Value) : (Cond.fieldLinkNest a i b n d u).before args s = true := by
  obtain ⟨A0, h0⟩ := h.1.1
  exact va_Nw.use rfl (va_Nw.warmF h.2 (va_Nw.of rfl (h0 _ hw)))
theorem KN.nM {G : Wd} {s : State} (h : KN G s) {a : String} {i : Nat} {x : MethodName} {u : String} (hw : Cond.methodLinkNest a i x u ∈ lw_tbl) (args : Array Value) : (Cond.methodLinkNest a i x u).before args s = true := by
  obtain ⟨A0, h0⟩ := h.1.1
  exact va_Nw.use rfl (va_Nw.warmM h.2 (va_Nw.of rfl (h0 _ hw)))
theorem KN.ca {G : Wd} {s : State} (h : KN G s) {a b : String} (hw : Cond.castable a b ∈ lw_tbl) : va_Nw (.castable a b) s := by
  obtain ⟨A0, h0⟩ := h.1.1
  exact va_Nw.warmC h.2 (va_Nw.of rfl (h0 _ hw))
theorem KN.de {G : Wd} {s : State} (h : KN G s) {x : MethodName} (hw : Cond.declares x ∈ lw_tbl) : va_Nw (.declares x) s := by
  obtain ⟨A0, h0⟩ := h.1.1
  exact va_Nw.warmD h.2 (va_Nw.of rfl (h0 _ hw))
theorem KN.ao {G : Wd} {s : State} (h : KN G s) {C : String} (hw : Cond.arrayOver (.object C) ∈ lw_tbl) : va_AO C s := by
  obtain ⟨A0, h0⟩ := h.1.1
  exact va_AO.moved h.2.alike (va_AO.of (h0 _ hw))
theorem KN.k6 {G : Wd} {s : State} (h : KN G s) : ∃ k6 : Class, s.vm.classes[wT G 6]? = some k6 ∧ k6.kind = .array (wT G 0) (.array .int) := by
  obtain ⟨k6, k7, e1, e2, -⟩ := h.1.2.2.1
  obtain ⟨k', hk', he⟩ := h.2.alike.2.2 _ _ e1
  exact ⟨k', hk', by rw [he]; exact e2⟩
theorem ao_moved {t : FieldType} {u U : State} {A0 A : Array Value} (hvm : u.vm.Alike U.vm) (h : (Cond.arrayOver (.array t)).before A0 u = true) : (Cond.arrayOver (.array t)).before A U = true := by
  obtain ⟨comp, c, k, h1, h2, h3, h4, h5⟩ := arrayOverA_spec h
  obtain ⟨k', hk', he⟩ := hvm.2.2 _ _ h3
  have hi : (U.vm.classes.findIdx? fun (x : Class) => match x.kind with | .array component _ => component == comp | _ => false) = some c := by
    rw [hvm.findIdx?_eq _ (fun _ => rfl)]
    exact h2
  have hkind : k'.kind = .array comp (.array t) := by rw [he]; exact h4
  have f1 : U.vm.findClass (FieldType.array t).toString = some comp := by rw [hvm.findClass]; exact h1
  have f2 : U.vm.findClass ("[" ++ (FieldType.array t).toString) = some c := by rw [hvm.findClass]; exact h5
  unfold Cond.before Cond.holds
  simp only [Cond.value]
  rw [f1, Option.bind_some]
  refine (congrArg (fun o : Option Nat => (o.bind (fun c => (U.vm.classes[c]?).map fun (k : Class) => match k.kind with | .array _ ty => decide (ty = FieldType.array t) && decide (U.vm.findClass ("[" ++ (FieldType.array t).toString) = some c) | _ => false) == some true)) hi).trans ?_
  simp [hk', hkind, f2]
theorem KN.aoA {G : Wd} {s : State} (h : KN G s) {t : FieldType} (hw : Cond.arrayOver (.array t) ∈ lw_tbl) (args : Array Value) : (Cond.arrayOver (.array t)).before args s = true := by
  obtain ⟨A0, h0⟩ := h.1.1
  exact ao_moved h.2.alike (h0 _ hw)
theorem KN.aoI {G : Wd} {s : State} (h : KN G s) {args : Array Value} : (Cond.arrayOver (.array .int)).before args s = true := h.aoA q287 args
theorem KN.fw {G : Wd} {s : State} (h : KN G s) {C : String} {x y : MethodName} (hx : x.cls ≠ "java/lang/invoke/MethodHandle" ∧ x.cls ≠ "java/lang/invoke/VarHandle") (h1 : Cond.declares x ∈ lw_tbl) (h2 : Cond.interfaceMethod x.cls x.cls x.name x.desc ∈ lw_tbl) (h3 : Cond.publicMethod y ∈ lw_tbl) (h4 : Cond.unhidden C x.name x.desc ∈ lw_tbl) (h5 : Cond.castable C x.cls ∈ lw_tbl) : va_Fw C x y s := by
  obtain ⟨A0, h0⟩ := h.1.1
  exact va_Fw.moved hx h.2.alike (va_Fw.of (h0 _ h1) (h0 _ h2) (h0 _ h3) (h0 _ h4) (h0 _ h5))
/-! ===== contracts ===== -/
/-- a method: name, code, locals, answer, handlers -/
abbrev MI : Type := MethodName × ByteArray × Nat × Option FieldType × Option (List (Nat × Nat × Nat × Nat))
def miW (mi : MI) : Cond := match mi.2.2.2.2 with
  | none => .code mi.1 mi.2.1 mi.2.2.1 mi.2.2.2.1
  | some hh => .codeWith mi.1 mi.2.1 mi.2.2.1 mi.2.2.2.1 hh
def miT (mi : MI) : List ExceptionTableEntry := match mi.2.2.2.2 with
  | none => []
  | some hh => tableOf hh
def FEn (G : Wd) (s t : State) : Prop := s.WarmedH t.vm ∧ ∃ (L : List Loc) (k n : Nat), s.sameButNew ({ t with vm := s.vm } : State) L k n ∧ ∀ z ∈ L, wB G ≤ z.base
/-- an exception: an object of one of the tracked classes -/
def xk (xp : Nat → VH → Prop) : Nat → VH → Prop := fun a h => (h.1 a).1 ≠ 0 ∧ (h.1 a).1 < 100 ∧ xp a h
def QD (G : Wd) (post : Option Value → VH → Prop) (xp : Nat → VH → Prop) (s : State) (o : Outcome) (t : State) : Prop :=
  (∃ (v : Option Value) (h : VH), o = .returned v ∧ post v h ∧ Rp G h t.heap ∧ FEn G s t) ∨
  (∃ (q : Nat) (h : VH) (ce : Cell), o = .threw q ∧ xk xp (q + 1) h ∧ Rp G h t.heap ∧ t.heap[q]? = some ce ∧ ce.vm = .none ∧ FEn G s t)
def rmD (G : Wd) (d : Nat) (h : VH) : Room := { frames := d, cells := wC G + 1 - h.2.1, slots := wS G - h.2.2, locals := 96 * d }
/-- THE CONTRACT: called with av on a heap that holds h, the method returns with post or throws with xp -/
def D (G : Wd) (l : Launch) (d : Nat) (mi : MI) (av : List VT) (h : VH) (post : Option Value → VH → Prop) (xp : Nat → VH → Prop) : Prop :=
  MetFree l mi.1 (headSpec [miW mi] (rmD G d h)) (fun a U => a = (av.map tv).toArray ∧ Rp G h U.heap ∧ KN G U ∧ l.stackTraces = false) (fun _ _ _ _ _ => True) (fun _ st o t => QD G post xp st o t)
theorem QD.mono {G : Wd} {post post' : Option Value → VH → Prop} {xp xp' : Nat → VH → Prop} {s : State} {o : Outcome} {t : State} (h : QD G post xp s o t) (hp : ∀ v h, post v h → post' v h) (hx : ∀ a h, xp a h → xp' a h) : QD G post' xp' s o t := by
  rcases h with ⟨v, h, e1, e2, e3⟩ | ⟨q, h, ce, e1, e2, e3⟩
  · exact Or.inl ⟨v, h, e1, hp _ _ e2, e3⟩
  · exact Or.inr ⟨q, h, ce, e1, ⟨e2.1, e2.2.1, hx _ _ e2.2.2⟩, e3⟩
/-- what every heap of the machine shows -/
def WF (h : VH) : Prop := ∀ a, (h.1 a).1 ≠ 0 → 0 < a ∧ a < h.2.1
theorem Rp.wf {G : Wd} {h : VH} {H : Heap} (hR : Rp G h H) : WF h := by
  obtain ⟨r1, r2, r3, r4, r5, r6, r7, r8, r9, r10⟩ := hR
  intro a ha
  cases a with
  | zero => exact absurd r7 ha
  | succ b =>
    refine ⟨Nat.succ_pos b, ?_⟩
    rw [← r1]
    exact Nat.succ_lt_succ (Nat.lt_of_not_le fun z => ha (r8 b z))
theorem D.wf {G : Wd} {l : Launch} {d : Nat} {mi : MI} {av : List VT} {h : VH} {post : Option Value → VH → Prop} {xp : Nat → VH → Prop} (hD : WF h → D G l d mi av h post xp) : D G l d mi av h post xp := by
  intro p e h1 h2 h3 s m args below h4 h5 h6 h7
  exact hD (show WF h from h6.2.1.wf) p e h1 h2 h3 s m args below h4 h5 h6 h7
theorem D.mono {G : Wd} {l : Launch} {d : Nat} {mi : MI} {av : List VT} {h : VH} {post post' : Option Value → VH → Prop} {xp xp' : Nat → VH → Prop} (hD : D G l d mi av h post xp) (hp : ∀ v h, post v h → post' v h) (hx : ∀ a h, xp a h → xp' a h) : D G l d mi av h post' xp' := by
  intro p e h1 h2 h3 s m args below h4 h5 h6 h7
  obtain ⟨n, o, a1, a2, a3, a4⟩ := hD p e h1 h2 h3 s m args below h4 h5 h6 h7
  exact ⟨n, o, a1, a2, a3, a4.mono hp hx⟩
section FWA
variable {p : Program} {l : Launch} {e : Env} {R : Room} {s : State} {m : MethodId} {args : Array Value} {below : List Frame} {meth : Method} {c : Code} {H : Heap} {locs : List Loc} {Q : State → Prop} {G : Wd}
/-- the walk's judgement, cells and slots counted by the heap itself -/
abbrev Wn (p : Program) (l : Launch) (e : Env) (R : Room) (s : State) (m : MethodId) (args : Array Value) (below : List Frame) (meth : Method) (c : Code) (H : Heap) (locs : List Loc) (Q : State → Prop) (g : JFrame) : Prop := W p l e R s m args below meth c H locs (H.size - s.heap.size) (tsl H - tsl s.heap) Q g
abbrev Xn (p : Program) (l : Launch) (e : Env) (R : Room) (s : State) (m : MethodId) (args : Array Value) (below : List Frame) (meth : Method) (c : Code) (H : Heap) (locs : List Loc) (Q : State → Prop) (g : JFrame) (q : Addr) : Prop := vx_W p l e R s m args below meth c H locs (H.size - s.heap.size) (tsl H - tsl s.heap) Q g q
theorem stand_nar {T : State} {cells slots : Nat} (X : Stand p l e R s m args below meth c T locs cells slots) : Stand p l e R s m args below meth c T locs (T.heap.size - s.heap.size) (tsl T.heap - tsl s.heap) := by
  have hb := X.book
  have h0 : s.slotsTrue = true := by
    have h := X.room
    simp only [State.hasRoom, Bool.and_eq_true] at h
    exact h.2
  obtain ⟨e1, e2, e3, e4, e5, e6⟩ := X.same
  have e2' : s.heap.size ≤ T.heap.size := e2
  have a1 : T.slotsUsed = tsl T.heap := by simpa [State.slotsTrue, tsl] using hb
  have a2 : s.slotsUsed = tsl s.heap := by simpa [State.slotsTrue, tsl] using h0
  have a3 : T.slotsUsed = s.slotsUsed + ((T.heap.toList.drop s.heap.size).map (·.slots.size)).sum := e4
  refine { X with same := ⟨e1, e2, ?_, e4, ?_, e6⟩ }
  · show T.heap.size ≤ s.heap.size + (T.heap.size - s.heap.size)
    omega
  · show ((T.heap.toList.drop s.heap.size).map (·.slots.size)).sum ≤ tsl T.heap - tsl s.heap
    omega
theorem W.nar {k n : Nat} {g : JFrame} (kk : Wn p l e R s m args below meth c H locs Q g) : W p l e R s m args below meth c H locs k n Q g := by
  intro T hT X
  have X2 := stand_nar X
  subst hT
  exact kk T rfl X2
theorem Xn_nar {k n : Nat} {g : JFrame} {q : Addr} (kk : Xn p l e R s m args below meth c H locs Q g q) : vx_W p l e R s m args below meth c H locs k n Q g q := by
  intro T hT X
  have X2 := stand_nar X
  subst hT
  exact kk T rfl X2
theorem stand_sz {T : State} {cells slots : Nat} (X : Stand p l e R s m args below meth c T locs cells slots) : s.heap.size ≤ T.heap.size ∧ tsl s.heap ≤ tsl T.heap := by
  have hsz : s.heap.size ≤ T.heap.size := X.same.2.1
  have h1 := X.book
  have h2 : s.slotsTrue = true := by
    have h := X.room
    simp only [State.hasRoom, Bool.and_eq_true] at h
    exact h.2
  have a1 : T.slotsUsed = tsl T.heap := by simpa [State.slotsTrue, tsl] using h1
  have a2 : s.slotsUsed = tsl s.heap := by simpa [State.slotsTrue, tsl] using h2
  have a3 : T.slotsUsed = s.slotsUsed + ((T.heap.toList.drop s.heap.size).map (·.slots.size)).sum := X.same.2.2.2.1
  exact ⟨hsz, by omega⟩
theorem W.sz {cells slots : Nat} {g : JFrame} (k : s.heap.size ≤ H.size → tsl s.heap ≤ tsl H → W p l e R s m args below meth c H locs cells slots Q g) : W p l e R s m args below meth c H locs cells slots Q g := by
  intro T hT X
  obtain ⟨h1, h2⟩ := stand_sz X
  subst hT
  exact k h1 h2 T rfl X
theorem W.mono {cells slots : Nat} {g : JFrame} {Q' : State → Prop} (h : ∀ t, Q t → Q' t) (k : W p l e R s m args below meth c H locs cells slots Q g) : W p l e R s m args below meth c H locs cells slots Q' g := by
  intro T hT X
  obtain ⟨t, a, b⟩ := k T hT X
  exact ⟨t, a, h t b⟩
end FWA
/-- a method's frame at pc with these locals, this stack, this heap -/
def VW (G : Wd) (nL : Nat) (p : Program) (l : Launch) (e : Env) (R : Room) (s : State) (m : MethodId) (args : Array Value) (below : List Frame) (meth : Method) (c : Code) (Q : State → Prop) (pc : Nat) (L : List (Nat × VT)) (st : List Value) (h : VH) : Prop :=
  ∀ (H : Heap) (locs : List Loc) (ls : Array Slot), Rp G h H → (∀ z ∈ locs, wB G ≤ z.base) → lv_has ls nL (lm L) → Wn p l e R s m args below meth c H locs Q (F0 m pc ls st)
/-- the same where the exception q is on its way at pc -/
def XW (G : Wd) (nL : Nat) (p : Program) (l : Launch) (e : Env) (R : Room) (s : State) (m : MethodId) (args : Array Value) (below : List Frame) (meth : Method) (c : Code) (Q : State → Prop) (pc : Nat) (L : List (Nat × VT)) (q : Nat) (h : VH) : Prop :=
  ∀ (H : Heap) (locs : List Loc) (ls : Array Slot) (rest : List Value) (q0 : Nat), q = q0 + 1 → (h.1 q).1 ≠ 0 → (h.1 q).1 < 100 → Rp G h H → (∀ z ∈ locs, wB G ≤ z.base) → lv_has ls nL (lm L) → Xn p l e R s m args below meth c H locs Q (F0 m pc ls rest) q0
def CF (G : Wd) (l : Launch) (d : Nat) (mi : MI) (post : Option Value → VH → Prop) (xp : Nat → VH → Prop) (p : Program) (e : Env) (R : Room) (s : State) (m : MethodId) (args : Array Value) (below : List Frame) (meth : Method) (c : Code) (Q : State → Prop) : Prop :=
  p.tables.exec = Jvm.exec ∧ c.code = mi.2.1 ∧ meth.sig.returnType = mi.2.2.2.1 ∧ meth.locks = false ∧ c.maxLocals = mi.2.2.1 ∧ s.vm.findClass mi.1.cls = some m.cls ∧ KN G s ∧
  (d + 1 ≤ R.frames ∧ 96 * (d + 1) ≤ R.locals ∧ wC G ≤ R.cells + s.heap.size ∧ wS G ≤ R.slots + tsl s.heap ∧ 8 ≤ d) ∧ c.exceptionTable.toList = miT mi ∧ meth.name = mi.1.name ∧ wB G ≤ s.heap.size ∧ l.stackTraces = false ∧
  Q = fun t => ∃ o, t.status = .running ∧ Ended t below o ∧ QD G post xp s o t
def Ctx (G : Wd) (l : Launch) (d : Nat) (mi : MI) (post : Option Value → VH → Prop) (xp : Nat → VH → Prop) (V : Nat → List (Nat × VT) → List Value → VH → Prop) (XV : Nat → List (Nat × VT) → Nat → VH → Prop) : Prop :=
  ∃ (p : Program) (e : Env) (R : Room) (s : State) (m : MethodId) (args : Array Value) (below : List Frame) (meth : Method) (c : Code) (Q : State → Prop),
    CF G l d mi post xp p e R s m args below meth c Q ∧ (∀ pc L st h, V pc L st h ↔ VW G mi.2.2.1 p l e R s m args below meth c Q pc L st h) ∧ (∀ pc L q h, XV pc L q h ↔ XW G mi.2.2.1 p l e R s m args below meth c Q pc L q h)
theorem D_intro {G : Wd} {l : Launch} {d : Nat} {mi : MI} {av : List VT} {h : VH} {post : Option Value → VH → Prop} {xp : Nat → VH → Prop} (hd : 9 ≤ d) (hpl : plainName mi.1.cls = true) (hlen : (lg_sl (av.map tv)).length ≤ mi.2.2.1)
    (body : ∀ V XV, Ctx G l (d - 1) mi post xp V XV → V 0 (lvt 0 av) [] h) : D G l d mi av h post xp := by
  obtain ⟨d, rfl⟩ : ∃ d', d = d' + 1 := ⟨d - 1, by omega⟩
  have main : ∀ p e s m args below meth c s₁, BodyLoose p l mi.1 (headSpec [miW mi] (rmD G (d + 1) h)) mi.2.1 mi.2.2.1 mi.2.2.2.1 e s m args below meth c s₁ → c.maxLocals = mi.2.2.1 → c.exceptionTable.toList = miT mi → (args = (av.map tv).toArray ∧ Rp G h s.heap ∧ KN G s ∧ l.stackTraces = false) →
      ∃ s₂ o, Steps p.tables e below (s₁.setTop (entryFrame m args mi.2.2.1)) s₂ ∧ s₂.status = .running ∧ Ended s₂ below o ∧ QD G post xp s o s₂ := by
    intro p e s m args below meth c s₁ B hml htb hP
    obtain ⟨rfl, hR, hk, htr⟩ := hP
    have hh0 : s₁.heap = s.heap := by rw [B.state]; rfl
    have hown : s.vm.findClass mi.1.cls = some m.cls := findClass_of_methodNamed B.named
    obtain ⟨r1, r2, r3, r4, r5, r6⟩ := id hR
    have C : Ctx G l d mi post xp (VW G mi.2.2.1 p l e (rmD G (d + 1) h) s m (av.map tv).toArray below meth c (fun t => ∃ o, t.status = .running ∧ Ended t below o ∧ QD G post xp s o t)) (XW G mi.2.2.1 p l e (rmD G (d + 1) h) s m (av.map tv).toArray below meth c (fun t => ∃ o, t.status = .running ∧ Ended t below o ∧ QD G post xp s o t)) :=
      ⟨p, e, rmD G (d + 1) h, s, m, (av.map tv).toArray, below, meth, c, _, ⟨B.exec, B.bytes, B.returns, B.notSynchronized, hml, hown, hk, ⟨Nat.le_refl _, Nat.le_refl _, (by show wC G ≤ wC G + 1 - h.2.1 + s.heap.size; omega), (by show wS G ≤ wS G - h.2.2 + tsl s.heap; omega), by omega⟩, htb, (name_of_methodNamed B.named B.method).1, r5, htr, rfl⟩, fun _ _ _ _ => Iff.rfl, fun _ _ _ _ => Iff.rfl⟩
    have hV := body _ _ C
    have hl := lv_entry (av.map tv) (n := mi.2.2.1) hlen
    rw [← lm_lvt] at hl
    have hW := hV s.heap [] _ hR (fun z hz => by cases hz) hl
    rw [← lg_entry_eq] at hW
    obtain ⟨t, a1, o, b1, b2, b3⟩ := W.nar (k := 0) (n := 0) hW s₁ hh0 (Stand.of_body B)
    exact ⟨t, o, a1, b1, b2, b3⟩
  unfold D
  obtain ⟨y, cc, maxL, ret, hd⟩ := mi
  cases hd with
  | none =>
    refine MetFree.of_bodyS (code := cc) (maxLocals := maxL) (ret := ret) hpl ?_ ?_
    · intro args s m h hn
      obtain ⟨meth, c, h1, h2, h3, h4, h5, h6, -, -⟩ := Cond.code_spec hn (atoms_spec (ws := [miW (y, cc, maxL, ret, none)]) h _ List.mem_cons_self)
      exact ⟨meth, c, h1, h2, h3, h4, h5, h6⟩
    · intro p e s m args below meth c s₁ B hml hP _
      refine main p e s m args below meth c s₁ B hml ?_ hP
      obtain ⟨meth9, c9, h1, h2, -, -, -, -, h7, -⟩ := Cond.code_spec B.named (atoms_spec (ws := [miW (y, cc, maxL, ret, none)]) B.pre _ List.mem_cons_self)
      cases Option.some.inj (h1.symm.trans B.method)
      cases Option.some.inj (h2.symm.trans (Stand.of_body B).code)
      rw [Array.isEmpty_iff.mp h7]; rfl
  | some hh =>
    refine MetFree.of_bodyS (code := cc) (maxLocals := maxL) (ret := ret) hpl ?_ ?_
    · intro args s m h hn
      obtain ⟨m9, meth, c, hn9, h1, h2, h3, h4, -, h5, h6, -⟩ := Cond.codeWith_spec (atoms_spec (ws := [miW (y, cc, maxL, ret, some hh)]) h _ List.mem_cons_self)
      cases hn.symm.trans hn9
      exact ⟨meth, c, h1, h2, h3, h4, h5, h6⟩
    · intro p e s m args below meth c s₁ B hml hP _
      refine main p e s m args below meth c s₁ B hml ?_ hP
      have h9 : (Cond.codeWith y cc maxL ret hh).before args s = true := atoms_spec (ws := [miW (y, cc, maxL, ret, some hh)]) B.pre _ List.mem_cons_self
      exact vx_table (x := y) B h9
/-! ===== the call ===== -/
def PreDl (G : Wd) (l : Launch) (d : Nat) (R : Room) (av : List VT) (h : VH) : Pt → Array Value → Prop := fun A a => A.cells + (rmD G d h).cells ≤ R.cells ∧ A.slots + (rmD G d h).slots ≤ R.slots ∧ a = (av.map tv).toArray ∧ Rp G h A.U.heap ∧ KN G A.U ∧ l.stackTraces = false
def PosD (G : Wd) (post : Option Value → VH → Prop) : Pt → Array Value → Option Value → Pt → Prop := fun A _ v B => ∃ (h : VH) (L : List Loc), post v h ∧ Rp G h B.U.heap ∧ B.locs = A.locs ++ L ∧ ∀ z ∈ L, wB G ≤ z.base
def PosX (G : Wd) (xp : Nat → VH → Prop) : Pt → Array Value → Addr → Pt → Prop := fun A _ q B => ∃ (h : VH) (L : List Loc), xk xp (q + 1) h ∧ Rp G h B.U.heap ∧ B.locs = A.locs ++ L ∧ ∀ z ∈ L, wB G ≤ z.base
section FWB
variable {l : Launch} {R : Room} {p : Program} {e : Env} {below : List Frame} {s : State} {sargs : Array Value} {len W9 : Nat}
theorem d_back {G : Wd} {d : Nat} {mi : MI} {av : List VT} {h : VH} {post : Option Value → VH → Prop} {xp : Nat → VH → Prop} (hM : D G l d mi av h post xp)
    (hframes : d + 1 ≤ R.frames) (hlocals : W9 + (mi.2.2.1 + 11) + 96 * d ≤ R.locals) (hk : KN G s) (hcode : miW mi ∈ lw_all) (hini : Cond.initialized mi.1.cls ∈ lw_all) :
    vx_Back l R p e below s sargs mi.1 len W9 (PreDl G l d R av h) (PosD G post) (PosX G xp) := by
  intro m meth c A g ig mk a X hg hsize hdg hW hn hp
  have hkA : KN G A.U := hk.warm X.warmed
  have h1 : (headSpec [miW mi] (rmD G d h)).pre.before a A.U = true := atoms_intro fun w hw => by
    rw [List.mem_singleton.mp hw]
    exact hkA.w hcode a
  have h3 : (Cond.initialized mi.1.cls).before a A.U = true := hkA.w hini a
  have h4 : A.cells + (headSpec [miW mi] (rmD G d h)).room.cells ≤ R.cells := hp.1
  have h5 : A.slots + (headSpec [miW mi] (rmD G d h)).room.slots ≤ R.slots := hp.2.1
  have hPc : a = (av.map tv).toArray ∧ Rp G h (A.U.calling g mk a).heap ∧ KN G (A.U.calling g mk a) ∧ l.stackTraces = false := ⟨hp.2.2.1, hp.2.2.2.1, hp.2.2.2.2.1, hp.2.2.2.2.2⟩
  obtain ⟨methY, cY, hmY, hcY, hlY⟩ : ∃ (methY : Method) (cY : Code), A.U.vm.method? mk = some methY ∧ methY.code = some cY ∧ cY.maxLocals = mi.2.2.1 := by
    have h2 := hkA.w hcode a
    obtain ⟨y, cc, maxL, ret, hd⟩ := mi
    cases hd with
    | none =>
      obtain ⟨methY, cY, hmY, hcY, -, hlY, -⟩ := Cond.code_spec hn h2
      exact ⟨methY, cY, hmY, hcY, hlY⟩
    | some hh =>
      obtain ⟨m9, methY, cY, hn9, hmY, hcY, -, hlY, -⟩ := Cond.codeWith_spec h2
      cases hn.symm.trans hn9
      exact ⟨methY, cY, hmY, hcY, hlY⟩
  obtain ⟨U, Ls, c0, s0⟩ := A
  dsimp only [Pt.U, Pt.locs, Pt.cells, Pt.slots] at h1 h3 h4 h5 X hn hPc hmY ⊢
  obtain ⟨kY, hkY, -⟩ := className_of_methodNamed hn
  have hinitY : kY.init = .initialized := Cond.initialized_spec (findClass_of_methodNamed hn) hkY h3
  have hA : At U g.method c below := by rw [hg]; exact X.here
  have hlocals9 : W9 + (mi.2.2.1 + 11) + (headSpec [miW mi] (rmD G d h)).room.locals ≤ R.locals := hlocals
  have happ : (headSpec [miW mi] (rmD G d h)).appliesLoose mi.1 e.platform (U.calling g mk a) = true :=
    Spec.appliesLoose_calling (g := g) hA hdg hn hkY hinitY
      (X.room_calling (g := g) (R' := (headSpec [miW mi] (rmD G d h)).room) hsize hmY hcY hframes (by rw [hlY]; omega) h4 h5) h1
  obtain ⟨mid, hmid⟩ := hA.above
  have hfr : (U.setTop g).frames = (.java g :: mid) ++ below := by rw [State.frames_setTop' g hA.top, hmid]; rfl
  obtain ⟨o, s₂, hsteps, -, hend, hq⟩ := Steps.callFree hM p X.admits X.cas X.clock (acts := []) hfr happ hPc trivial
  have hq' : QD G post xp (U.calling g mk a) o s₂ := hq
  rw [State.frames_setTop' g hA.top] at hend
  obtain ⟨g₀, hg0⟩ := Option.isSome_iff_exists.mp hA.top
  obtain ⟨r, hr⟩ := State.topJava?_eq_some.mp hg0
  have hr' : (({ U with heap := s₂.heap, slotsUsed := s₂.slotsUsed } : State).setVm s₂.vm).frames = .java g₀ :: r := hr
  rcases hq' with ⟨v, h', rfl, hpo, hRp, hW₂, L, k9, n9, hsm, hL⟩ | ⟨q, h', ce, rfl, hpo, hRp, hce, hcv, hW₂, L, k9, n9, hsm, hL⟩
  · obtain ⟨e2, q2, q3, q4, q5, q6⟩ := id hsm
    have e3 : s₂ = ({ (U.calling g mk a).setFrames s₂.frames with heap := s₂.heap, slotsUsed := s₂.slotsUsed } : State).setVm s₂.vm := by
      have : s₂ = ({ s₂ with vm := (U.calling g mk a).vm } : State).setVm s₂.vm := rfl
      rw [e2] at this
      exact this
    obtain ⟨c₂, i₂, len₂, hc₂, hd₂, hf₂⟩ := hend
    have hW' : U.WarmedH s₂.vm := hW₂
    have hcc : c₂ = c := by
      have h1 : s₂.code? g.method = U.code? g.method := by
        rw [State.code?_eq, State.code?_eq, hW'.alike.method?]
      exact Option.some.inj (hc₂.symm.trans (h1.trans hA.code))
    subst hcc
    have hlen : len₂ = len := by rw [hdg] at hd₂; cases hd₂; rfl
    subst hlen
    have hs₂ : s₂ = (({ U with heap := s₂.heap, slotsUsed := s₂.slotsUsed } : State).setVm s₂.vm).setTop { g with pc := g.pc + len₂, stack := v.toList ++ g.stack } := by
      refine e3.trans ?_
      rw [hf₂, State.calling_eq hA.top, State.setFrames_setFrames, State.setTop_of_frames _ hr', hr]
      rfl
    have hsame : U.sameButNew ({ U with heap := s₂.heap, slotsUsed := s₂.slotsUsed } : State) L k9 n9 := by
      refine ⟨?_, q2, q3, q4, q5, q6⟩
      obtain ⟨t, ht, -⟩ := State.frames_cons hr
      show ({ U with heap := s₂.heap, slotsUsed := s₂.slotsUsed } : State) = { U.setFrames U.frames with heap := s₂.heap, slotsUsed := s₂.slotsUsed }
      rw [State.setFrames_self ht]
    subst hg
    refine Or.inl ⟨v, ⟨(({ U with heap := s₂.heap, slotsUsed := s₂.slotsUsed } : State).setVm s₂.vm), Ls ++ L, c0 + k9, s0 + n9⟩,
      ⟨X.admits, X.cas, X.clock, X.frames, X.room, X.hears, X.method, X.code, (X.here.setHeapUsed s₂.heap s₂.slotsUsed).setVm hW'.alike, X.tail, State.WarmedH.trans X.warmed hW', X.limits, X.bytes, X.same.trans (hsame.setVm s.vm)⟩,
      ⟨h', L, hpo, hRp, rfl, hL⟩, ?_⟩
    show Steps p.tables e below _ ((({ U with heap := s₂.heap, slotsUsed := s₂.slotsUsed } : State).setVm s₂.vm).setTop { g with pc := g.pc + len₂, stack := v.toList ++ g.stack })
    rw [← hs₂]
    exact hsteps
  · obtain ⟨e2, q2, q3, q4, q5, q6⟩ := id hsm
    have e3 : s₂ = ({ (U.calling g mk a).setFrames s₂.frames with heap := s₂.heap, slotsUsed := s₂.slotsUsed } : State).setVm s₂.vm := by
      have : s₂ = ({ s₂ with vm := (U.calling g mk a).vm } : State).setVm s₂.vm := rfl
      rw [e2] at this
      exact this
    have hf₂ : s₂.frames = .throwing q :: .java g :: U.frames.tail := hend
    have hW' : U.WarmedH s₂.vm := hW₂
    have hs₂ : s₂ = ((({ U with heap := s₂.heap, slotsUsed := s₂.slotsUsed } : State).setVm s₂.vm).setTop g).pushFrame (.throwing q) := by
      refine e3.trans ?_
      rw [hf₂, State.calling_eq hA.top, State.setFrames_setFrames, State.pushFrame, State.frames_setTop _ hr', State.setTop_of_frames _ hr', State.setFrames_setFrames, hr]
      rfl
    have hsame : U.sameButNew ({ U with heap := s₂.heap, slotsUsed := s₂.slotsUsed } : State) L k9 n9 := by
      refine ⟨?_, q2, q3, q4, q5, q6⟩
      obtain ⟨t, ht, -⟩ := State.frames_cons hr
      show ({ U with heap := s₂.heap, slotsUsed := s₂.slotsUsed } : State) = { U.setFrames U.frames with heap := s₂.heap, slotsUsed := s₂.slotsUsed }
      rw [State.setFrames_self ht]
    subst hg
    refine Or.inr ⟨q, ⟨(({ U with heap := s₂.heap, slotsUsed := s₂.slotsUsed } : State).setVm s₂.vm), Ls ++ L, c0 + k9, s0 + n9⟩,
      ⟨X.admits, X.cas, X.clock, X.frames, X.room, X.hears, X.method, X.code, (X.here.setHeapUsed s₂.heap s₂.slotsUsed).setVm hW'.alike, X.tail, State.WarmedH.trans X.warmed hW', X.limits, X.bytes, X.same.trans (hsame.setVm s.vm)⟩,
      ⟨h', L, hpo, hRp, rfl, hL⟩, ?_⟩
    show Steps p.tables e below _ (((({ U with heap := s₂.heap, slotsUsed := s₂.slotsUsed } : State).setVm s₂.vm).setTop g).pushFrame (.throwing q))
    rw [← hs₂]
    exact hsteps
end FWB
