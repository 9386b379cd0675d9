section ROWS2
variable {p : Program} {l : Launch} {e : Env} {R : Room} {s : State} {m : MethodId} {args : Array Value} {below : List Frame} {meth : Method} {c : Code} {H : Heap} {locs : List Loc} {Q : State → Prop} {G : Wd} {h : VH}
variable {cc : ByteArray} {pc : Nat} {ls : Array Slot} {rest : List Value} {own : String}
/-- a clone of an array -/
def acl (h : VH) (a : Nat) : VH := (fun b => if b = h.2.1 then ((if (h.1 a).1 < 300 then (h.1 a).1 else (h.1 a).1 - 100), (h.1 a).2) else h.1 b, h.2.1 + 1, h.2.2 + ln h a)
theorem w_clone (hx : p.tables.exec = Jvm.exec) (hb : c.code = cc) (hml : c.maxLocals = ls.size) (hown : s.vm.findClass own = some m.cls) (hk : KN G s) (hR : Rp G h H) (hRC : wC G ≤ R.cells + s.heap.size) (hRS : wS G ≤ R.slots + tsl s.heap) (hRf : 1 ≤ R.frames) (hRl : 100 ≤ R.locals) (hrest : (rest.map fun v => v.category).sum ≤ 80) {a t index : Nat} {ty : FieldType} {ad : String}
    (hkd : (h.1 a).1 = 200 + t) (ht : t < 100) (hty : TYS[t]? = some ty) (hlink : Cond.methodLink own index ⟨ad, "clone", "()Ljava/lang/Object;"⟩ ∈ lw_all) (hsame : Cond.sameMethod ad "java/lang/Object" "clone" "()Ljava/lang/Object;" ∈ lw_all)
    (hnat : Cond.native ⟨"java/lang/Object", "clone", "()Ljava/lang/Object;"⟩ ∈ lw_all) (hinst : Cond.instanceMethod ⟨"java/lang/Object", "clone", "()Ljava/lang/Object;"⟩ ∈ lw_all)
    (hsel : Cond.selects ad ⟨ad, "clone", "()Ljava/lang/Object;"⟩ ⟨"java/lang/Object", "clone", "()Ljava/lang/Object;"⟩ ∈ lw_all) (hcl : Cond.castable ad "java/lang/Cloneable" ∈ lw_tbl) (hnm : s.vm.findClass ad = some (wT G t)) (hfit : ∀ j, j < ln h a → fits ty (fv ty j (h.1 a)) = true)
    (hmC : h.2.1 ≤ wC G) (hmS : h.2.2 + ln h a ≤ wS G) (hdg : decode cc pc = .ok (.invokevirtual index, 3))
    (kk : ∀ (H1 : Heap), Rp G (acl h a) H1 → Wn p l e R s m args below meth c H1 locs Q (F0 m (pc + 3) ls (vr h.2.1 :: rest))) : Wn p l e R s m args below meth c H locs Q (F0 m pc ls (vr a :: rest)) := by
  have hm : t % 100 = t := Nat.mod_eq_of_lt ht
  obtain ⟨b, rfl, e1, hbw⟩ := arr_cell (t := t) (ty := ty) hR hkd (by omega) (by rw [hm]; exact hty)
  rw [hm] at e1
  have r1 := hR.1
  have r2 := hR.2.1
  generalize hcE : arrV (wT G t) (ln h (b + 1)) (fun j => fv ty j (h.1 (b + 1))) = cell at e1
  have hsz : cell.slots.size = ln h (b + 1) := by rw [← hcE]; exact arrV_size _ _ _
  have hvm0 : cell.vm = .none := by rw [← hcE]; rfl
  have hcl0 : cell.cls = wT G t := by rw [← hcE]; rfl
  have hcellE : ({ cls := cell.cls, slots := cell.slots } : Cell) = cell := by rw [← hcE]; rfl
  obtain ⟨c0, t0', f1, f2, f3⟩ := Cond.castable_spec (va_Nw.use (A := args) rfl (hk.ca hcl))
  cases hnm.symm.trans f1
  intro T hT X
  obtain ⟨hz1, hz2⟩ := stand_sz X
  rw [hT] at hz1 hz2
  have hcellT : T.heap[b]? = some cell := by rw [hT]; exact e1
  obtain ⟨-, kA, hkA, comp, hkind⟩ := State.isArrayOf_alike X.warmed.alike ((arr_K hk (tys_eq hty)) 0 (fun _ => .null))
  obtain ⟨-, kS, hkS, compS, hkindS⟩ := (arr_K hk (tys_eq hty)) 0 (fun _ => .null)
  obtain ⟨vm', X', st⟩ := X.cloneArray hx hown (hk.w hlink args) (hk.w hsame args) (hk.w hnat args) (hk.w hinst args) (hk.w hsel args) (a := b) (cell := cell) hcellT (fun k h => by rw [hvm0] at h; cases h) (by rw [hvm0]; exact fun h => by cases h) (by rw [hcl0]; exact hnm) f2 (by rw [hcl0]; exact f3)
    (fun i v hv => by
      rw [hcl0]
      have hk' : T.vm.classes[wT G t]? = some kA := hkA
      have hf9 : fits ty v = true := by
        have hi : i < ln h (b + 1) := by rw [← hsz]; exact (Array.getElem?_eq_some_iff.mp hv).1
        rw [← hcE, arrV_read _ _ hi] at hv
        cases hv
        exact hfit i hi
      simpa [State.fitsSlot, State.slotType?, hk', hkind] using hf9)
    (g := F0 m pc ls (.ref b :: rest)) rfl (by rw [hml]) rfl (by rw [hb]; exact hdg) hRf (by show 2 * 0 + _ + 14 ≤ _; omega) (by omega) (by rw [hsz]; omega) (hloader := by rw [hcl0]; exact Vm.clonesLoader_of_array hkS hkindS)
  rw [hcellE, hsz] at X'
  generalize hH1 : H.push cell = H1
  have z1 : H1.size = H.size + 1 := by rw [← hH1, Array.size_push]
  have e1' : H1[H.size]? = some cell := by rw [← hH1, Array.getElem?_push_size]
  have o1 : ∀ q : Nat, q < H.size → H1[q]? = H[q]? := fun q hq => by rw [← hH1, Array.getElem?_push, if_neg (Nat.ne_of_lt hq)]
  have hv : vr h.2.1 = .ref T.heap.size := by rw [hT, ← r1]; rfl
  have key : Rp G (acl h (b + 1)) H1 := by
    obtain ⟨r1, r2, r3, r4, r5, r6, r7, r8, r9, r10⟩ := id hR
    have htg : (if (h.1 (b + 1)).1 < 300 then (h.1 (b + 1)).1 else (h.1 (b + 1)).1 - 100) = 200 + t := by rw [if_pos (by omega)]; exact hkd
    refine ⟨by rw [z1]; show H.size + 1 + 1 = h.2.1 + 1; omega, by rw [tsl_new z1 e1' o1, hsz]; show tsl H + ln h (b + 1) = h.2.2 + ln h (b + 1); omega, by omega, by rw [tsl_new z1 e1' o1, hsz]; omega, by omega, fun q hq => by rw [o1 q (by omega)]; exact r6 q hq, ?_, fun a ha => ?_, fun a i e hi => ?_, fun a t' e hi => ?_⟩
    · show (if (0 : Nat) = h.2.1 then _ else h.1 0).1 = 0
      rw [if_neg (by omega)]; exact r7
    · show (if a + 1 = h.2.1 then _ else h.1 (a + 1)).1 = 0
      rw [if_neg (by omega)]; exact r8 a (by omega)
    · have e' : (if a + 1 = h.2.1 then ((if (h.1 (b + 1)).1 < 300 then (h.1 (b + 1)).1 else (h.1 (b + 1)).1 - 100), (h.1 (b + 1)).2) else h.1 (a + 1) : VC).1 = i + 1 := e
      show objAt G (if a + 1 = h.2.1 then ((if (h.1 (b + 1)).1 < 300 then (h.1 (b + 1)).1 else (h.1 (b + 1)).1 - 100), (h.1 (b + 1)).2) else h.1 (a + 1) : VC) i a H1 ∧ _
      by_cases hab : a + 1 = h.2.1
      · rw [if_pos hab, htg] at e'
        have : 200 + t = i + 1 := e'
        omega
      · rw [if_neg hab] at e' ⊢
        obtain ⟨g1, g2⟩ := r9 a i e' hi
        exact ⟨objAt_kept g1 (o1 a (objAt_lt g1)), g2⟩
    · have e' : (if a + 1 = h.2.1 then ((if (h.1 (b + 1)).1 < 300 then (h.1 (b + 1)).1 else (h.1 (b + 1)).1 - 100), (h.1 (b + 1)).2) else h.1 (a + 1) : VC).1 = 200 + t' := e
      show arrAt G (if a + 1 = h.2.1 then ((if (h.1 (b + 1)).1 < 300 then (h.1 (b + 1)).1 else (h.1 (b + 1)).1 - 100), (h.1 (b + 1)).2) else h.1 (a + 1) : VC) (t' % 100) a H1 ∧ _
      by_cases hab : a + 1 = h.2.1
      · rw [if_pos hab, htg] at e' ⊢
        have hh : 200 + t = 200 + t' := e'
        have : t' = t := by omega
        subst this
        refine ⟨⟨ty, by rw [hm]; exact hty, ?_⟩, fun _ => by omega⟩
        rw [hm, show a = H.size by omega, e1', ← hcE]
        rfl
      · rw [if_neg hab] at e' ⊢
        obtain ⟨g1, g2⟩ := r10 a t' e' hi
        exact ⟨arrAt_kept g1 (o1 a (arrAt_lt g1)), g2⟩
  obtain ⟨t9, b1, b2⟩ := W.nar (kk H1 key) ((T.setVm vm').pushCell cell) (by rw [← hH1, ← hT]; rfl) X'
  refine ⟨t9, st t9 ?_, b2⟩
  rw [hcellE]
  rw [hv] at b1
  exact b1
/-! System.arraycopy between arrays of one kind -/
def acI (h : VH) (src sp dst dp n : Nat) : VH := hset h dst ((h.1 dst).1, (fun k => if dp ≤ k ∧ k < dp + n then gI h (sp + (k - dp)) src else (h.1 dst).2.1 k), (h.1 dst).2.2.1, (h.1 dst).2.2.2.1, (h.1 dst).2.2.2.2)
def acR (h : VH) (src sp dst dp n : Nat) : VH := hset h dst ((h.1 dst).1, (h.1 dst).2.1, (h.1 dst).2.2.1, (fun k => if dp ≤ k ∧ k < dp + n then gR h (sp + (k - dp)) src else (h.1 dst).2.2.2.1 k), (h.1 dst).2.2.2.2)
theorem w_copy0 (hx : p.tables.exec = Jvm.exec) (hb : c.code = cc) (hml : c.maxLocals = ls.size) (hown : s.vm.findClass own = some m.cls) (hk : KN G s) (hR : Rp G h H) (hL : ∀ z ∈ locs, wB G ≤ z.base) (hRf : 1 ≤ R.frames) (hRl : 200 ≤ R.locals) (hrest : (rest.map fun v => v.category).sum ≤ 80) {src dst t0 t1 index : Nat} {ty : FieldType} {c1 : VC}
    (hlink : Cond.methodLink own index arraycopyName ∈ lw_all) (hnat : Cond.native arraycopyName ∈ lw_all) (hstat : Cond.static arraycopyName ∈ lw_all) (hini : Cond.initialized "java/lang/System" ∈ lw_all)
    (hk0 : (h.1 src).1 = 200 + t0) (h0 : t0 < 200) (hk1 : (h.1 dst).1 = 200 + t1) (h1 : t1 < 100) (hty0 : TYS[t0 % 100]? = some ty) (hty1 : TYS[t1]? = some ty)
    {sp dp n : Int32} (g1 : ¬ sp < 0) (g2 : ¬ dp < 0) (g3 : ¬ n < 0) (g4 : sp.toNatClampNeg + n.toNatClampNeg ≤ ln h src) (g5 : dp.toNatClampNeg + n.toNatClampNeg ≤ ln h dst)
    (hel : ∀ vm₁ : Vm, s.vm.Alike vm₁ → ∀ T : State, T.heap = H → ∀ (k1 : Class) (cm1 : ClassId), s.vm.classes[wT G t1]? = some k1 → k1.kind = .array cm1 ty → ∀ i, i < n.toNatClampNeg → fits ty (fv ty (sp.toNatClampNeg + i) (h.1 src)) = true ∧ (T.setVm vm₁).takes cm1 (fv ty (sp.toNatClampNeg + i) (h.1 src)))
    (hc1 : c1.1 = (h.1 dst).1 ∧ c1.2.2.2.2 = (h.1 dst).2.2.2.2) (hv1 : ∀ k, fv ty k c1 = if dp.toNatClampNeg ≤ k ∧ k < dp.toNatClampNeg + n.toNatClampNeg then fv ty (sp.toNatClampNeg + (k - dp.toNatClampNeg)) (h.1 src) else fv ty k (h.1 dst))
    (hdg : decode cc pc = .ok (.invokestatic index, 3))
    (kk : ∀ (H1 : Heap) (locs1 : List Loc), Rp G (hset h dst c1) H1 → (∀ z ∈ locs1, wB G ≤ z.base) → Wn p l e R s m args below meth c H1 locs1 Q (F0 m (pc + 3) ls rest)) : Wn p l e R s m args below meth c H locs Q (F0 m pc ls (.int n :: .int dp :: vr dst :: .int sp :: vr src :: rest)) := by
  have nn : ∀ z : Int32, ¬ z < 0 → z.toInt = (z.toNatClampNeg : Int) := by
    intro z hz
    have hz0 : (0 : Int) ≤ z.toInt := by
      have := Int32.not_lt.mp hz
      simpa using Int32.le_iff_toInt_le.mp this
    show z.toInt = ((z.toInt.toNat : Nat) : Int)
    omega
  obtain ⟨a0, rfl, e0, -⟩ := arr_cell hR hk0 h0 hty0
  obtain ⟨a, rfl, e1, hbw⟩ := arr_cell (ty := ty) hR hk1 (by omega) (by rw [Nat.mod_eq_of_lt h1]; exact hty1)
  rw [Nat.mod_eq_of_lt h1] at e1
  intro T hT X
  obtain ⟨-, k0, hk0', cm0, hkk0⟩ := arr_K hk (tys_eq hty0) (ln h (a0 + 1)) (fun j => fv ty j (h.1 (a0 + 1)))
  obtain ⟨-, k1, hk1', cm1, hkk1⟩ := arr_K hk (tys_eq hty1) (ln h (a + 1)) (fun j => fv ty j (h.1 (a + 1)))
  have hsame : refKind ty = refKind ty := rfl
  obtain ⟨vm', X', step⟩ := X.arraycopy hx hown (hk.w hlink args) (hk.w hnat args) (hk.w hstat args) (hk.w hini args) (src := a0) (dst := a) (cs := arrV (wT G (t0 % 100)) (ln h (a0 + 1)) (fun j => fv ty j (h.1 (a0 + 1)))) (cd := arrV (wT G t1) (ln h (a + 1)) (fun j => fv ty j (h.1 (a + 1)))) (srcPos := sp) (destPos := dp) (n := n) (by rw [hT]; exact e0) (by rw [hT]; exact e1)
    (fun _ h => by cases h) (fun _ h => by cases h) (fun h => by cases h) (fun h => by cases h) hk0' hk1' hkk0 hkk1 (by first | rfl | simp) g1 g2 g3
    (by rw [nn sp g1, nn n g3, arrV_size]; omega)
    (by rw [nn dp g2, nn n g3, arrV_size]; omega)
    (fun vm₁ hal i hi => by
      have e : (arrV (wT G (t0 % 100)) (ln h (a0 + 1)) (fun j => fv ty j (h.1 (a0 + 1)))).slots.getD (sp.toNatClampNeg + i) .null = fv ty (sp.toNatClampNeg + i) (h.1 (a0 + 1)) := by
        rw [Array.getD_eq_getD_getElem?, arrV_read _ _ (by omega)]
        rfl
      rw [e]
      exact hel vm₁ hal T hT k1 cm1 hk1' hkk1 i hi)
    (g := F0 m pc ls (.int n :: .int dp :: .ref a :: .int sp :: .ref a0 :: rest)) rfl (by rw [hml]) (rest := rest) rfl (by rw [hb]; exact hdg) hRf (by
      have h9 : nativeFrameWords "java/lang/System" "arraycopy" 5 + 11 ≤ 100 := by decide
      show 2 * 0 + _ + _ ≤ _
      omega)
  have e2 : copied (arrV (wT G (t0 % 100)) (ln h (a0 + 1)) (fun j => fv ty j (h.1 (a0 + 1)))) (arrV (wT G t1) (ln h (a + 1)) (fun j => fv ty j (h.1 (a + 1)))) sp dp n = arrV (wT G t1) (ln h (a + 1)) (fun j => fv ty j c1) := by
    refine (va_copied (fun z : Value => z) (wT G (t0 % 100)) (wT G t1) (fun j => fv ty j (h.1 (a0 + 1))) (fun j => fv ty j (h.1 (a + 1))) g4).trans ?_
    congr 1
    funext k
    rw [hv1 k]
    rfl
  rw [e2] at X' step
  have hl : a < H.size := (Array.getElem?_eq_some_iff.mp e1).1
  have hheap : ((T.setVm vm').setCell a (arrV (wT G t1) (ln h (a + 1)) (fun j => fv ty j c1))).heap = H.setIfInBounds a (arrV (wT G t1) (ln h (a + 1)) (fun j => fv ty j c1)) := by rw [← hT]; rfl
  have oq : ∀ q : Nat, q ≠ a → (H.setIfInBounds a (arrV (wT G t1) (ln h (a + 1)) (fun j => fv ty j c1)))[q]? = H[q]? := fun q hq => by simp [Array.getElem?_setIfInBounds, Ne.symm hq]
  have e3 : (H.setIfInBounds a (arrV (wT G t1) (ln h (a + 1)) (fun j => fv ty j c1)))[a]? = some (arrV (wT G t1) (ln h (a + 1)) (fun j => fv ty j c1)) := by simp [Array.getElem?_setIfInBounds, hl]
  have key : Rp G (hset h (a + 1) c1) (H.setIfInBounds a (arrV (wT G t1) (ln h (a + 1)) (fun j => fv ty j c1))) := by
    refine hR.set hc1.1 (by simp) (tsl_upd (by simp) e1 e3 (by rw [arrV_size, arrV_size]) oq) oq (hbw h1) hl (fun i hi _ => by omega) (fun t' ht' _ => ?_)
    have : t' = t1 := by omega
    subst this
    refine ⟨ty, by rw [Nat.mod_eq_of_lt h1]; exact hty1, ?_⟩
    rw [Nat.mod_eq_of_lt h1, e3, hc1.2]
    rfl
  obtain ⟨t, b1, b2⟩ := W.nar (kk _ _ key (fun z hz => by
      rcases List.mem_append.mp hz with h | h
      · exact hL z h
      · obtain ⟨y, -, hy⟩ := List.mem_map.mp h
        rw [← hy]
        exact hbw h1)) _ hheap X'
  exact ⟨t, step t b1, b2⟩
theorem cpI {ty : FieldType} (hi : intK ty = true) {src sp dst dp n : Nat} : ∀ k, fv ty k ((h.1 dst).1, (fun k => if dp ≤ k ∧ k < dp + n then gI h (sp + (k - dp)) src else (h.1 dst).2.1 k), (h.1 dst).2.2.1, (h.1 dst).2.2.2.1, (h.1 dst).2.2.2.2) = if dp ≤ k ∧ k < dp + n then fv ty (sp + (k - dp)) (h.1 src) else fv ty k (h.1 dst) := by
  intro k
  by_cases q : dp ≤ k ∧ k < dp + n
  · rw [if_pos q]
    cases ty <;> first | (simp only [fv]; rw [if_pos q]; rfl) | (cases hi)
  · rw [if_neg q]
    cases ty <;> first | (simp only [fv]; rw [if_neg q]) | (cases hi)
theorem w_copyI (hx : p.tables.exec = Jvm.exec) (hb : c.code = cc) (hml : c.maxLocals = ls.size) (hown : s.vm.findClass own = some m.cls) (hk : KN G s) (hR : Rp G h H) (hL : ∀ z ∈ locs, wB G ≤ z.base) (hRf : 1 ≤ R.frames) (hRl : 200 ≤ R.locals) (hrest : (rest.map fun v => v.category).sum ≤ 80) {src dst t0 t1 index : Nat} {ty : FieldType}
    (hlink : Cond.methodLink own index arraycopyName ∈ lw_all) (hnat : Cond.native arraycopyName ∈ lw_all) (hstat : Cond.static arraycopyName ∈ lw_all) (hini : Cond.initialized "java/lang/System" ∈ lw_all)
    (hk0 : (h.1 src).1 = 200 + t0) (h0 : t0 < 200) (hk1 : (h.1 dst).1 = 200 + t1) (h1 : t1 < 100) (hty0 : TYS[t0 % 100]? = some ty) (hty1 : TYS[t1]? = some ty) (hi : intK ty = true)
    {sp dp n : Int32} (g1 : ¬ sp < 0) (g2 : ¬ dp < 0) (g3 : ¬ n < 0) (g4 : sp.toNatClampNeg + n.toNatClampNeg ≤ ln h src) (g5 : dp.toNatClampNeg + n.toNatClampNeg ≤ ln h dst)
    (hfit : ∀ j, fits ty (.int (gI h j src)) = true)
    (hdg : decode cc pc = .ok (.invokestatic index, 3))
    (kk : ∀ (H1 : Heap) (locs1 : List Loc), Rp G (acI h src sp.toNatClampNeg dst dp.toNatClampNeg n.toNatClampNeg) H1 → (∀ z ∈ locs1, wB G ≤ z.base) → Wn p l e R s m args below meth c H1 locs1 Q (F0 m (pc + 3) ls rest)) : Wn p l e R s m args below meth c H locs Q (F0 m pc ls (.int n :: .int dp :: vr dst :: .int sp :: vr src :: rest)) := by
  refine w_copy0 (ty := ty) (c1 := ((h.1 dst).1, (fun k => if dp.toNatClampNeg ≤ k ∧ k < dp.toNatClampNeg + n.toNatClampNeg then gI h (sp.toNatClampNeg + (k - dp.toNatClampNeg)) src else (h.1 dst).2.1 k), (h.1 dst).2.2.1, (h.1 dst).2.2.2.1, (h.1 dst).2.2.2.2)) hx hb hml hown hk hR hL hRf hRl hrest hlink hnat hstat hini hk0 h0 hk1 h1 hty0 hty1 g1 g2 g3 g4 g5 (fun vm₁ _ T _ k1 cm1 _ _ i _ => ?_) ⟨rfl, rfl⟩ (cpI hi) hdg kk
  have e : fv ty (sp.toNatClampNeg + i) (h.1 src) = .int (gI h (sp.toNatClampNeg + i) src) := by cases ty <;> first | rfl | cases hi
  rw [e]
  exact ⟨hfit _, trivial⟩
theorem w_copyR (hx : p.tables.exec = Jvm.exec) (hb : c.code = cc) (hml : c.maxLocals = ls.size) (hown : s.vm.findClass own = some m.cls) (hk : KN G s) (hR : Rp G h H) (hL : ∀ z ∈ locs, wB G ≤ z.base) (hRf : 1 ≤ R.frames) (hRl : 200 ≤ R.locals) (hrest : (rest.map fun v => v.category).sum ≤ 80) {src dst t0 index : Nat}
    (hlink : Cond.methodLink own index arraycopyName ∈ lw_all) (hnat : Cond.native arraycopyName ∈ lw_all) (hstat : Cond.static arraycopyName ∈ lw_all) (hini : Cond.initialized "java/lang/System" ∈ lw_all)
    (hk0 : (h.1 src).1 = 200 + t0) (h0 : t0 = 4 ∨ t0 = 104) (hk1 : (h.1 dst).1 = 204)
    {sp dp n : Int32} (g1 : ¬ sp < 0) (g2 : ¬ dp < 0) (g3 : ¬ n < 0) (g4 : sp.toNatClampNeg + n.toNatClampNeg ≤ ln h src) (g5 : dp.toNatClampNeg + n.toNatClampNeg ≤ ln h dst)
    (hel : ∀ j, j < n.toNatClampNeg → gR h (sp.toNatClampNeg + j) src = 0 ∨ ((h.1 (gR h (sp.toNatClampNeg + j) src)).1 ≠ 0 ∧ (h.1 (gR h (sp.toNatClampNeg + j) src)).1 < 30))
    (hdg : decode cc pc = .ok (.invokestatic index, 3))
    (kk : ∀ (H1 : Heap) (locs1 : List Loc), Rp G (acR h src sp.toNatClampNeg dst dp.toNatClampNeg n.toNatClampNeg) H1 → (∀ z ∈ locs1, wB G ≤ z.base) → Wn p l e R s m args below meth c H1 locs1 Q (F0 m (pc + 3) ls rest)) : Wn p l e R s m args below meth c H locs Q (F0 m pc ls (.int n :: .int dp :: vr dst :: .int sp :: vr src :: rest)) := by
  refine w_copy0 (ty := .object "java/lang/Object") (t1 := 4) (c1 := ((h.1 dst).1, (h.1 dst).2.1, (h.1 dst).2.2.1, (fun k => if dp.toNatClampNeg ≤ k ∧ k < dp.toNatClampNeg + n.toNatClampNeg then gR h (sp.toNatClampNeg + (k - dp.toNatClampNeg)) src else (h.1 dst).2.2.2.1 k), (h.1 dst).2.2.2.2)) hx hb hml hown hk hR hL hRf hRl hrest hlink hnat hstat hini hk0 (by omega) hk1 (by omega) (by rcases h0 with rfl | rfl <;> rfl) rfl g1 g2 g3 g4 g5 (fun vm₁ hal T hT k1 cm1 hk1' hkk1 i hi => ?_) ⟨rfl, rfl⟩ (fun k => ?_) hdg kk
  · show fits _ (vr (gR h (sp.toNatClampNeg + i) src)) = true ∧ (T.setVm vm₁).takes cm1 (vr (gR h (sp.toNatClampNeg + i) src))
    have h9 := hel i hi
    generalize gR h (sp.toNatClampNeg + i) src = v at h9 ⊢
    cases v with
    | zero => exact ⟨rfl, trivial⟩
    | succ y =>
      obtain ⟨cellV, kC, g1, g2, hkC, hasg⟩ := obj_any hk hR (v := y) (by omega)
      obtain ⟨kA, comp, r1, r2, r3, -⟩ := (hk.k.2 4 _ (tys_eq (t := 4) rfl)).2
      cases hk1'.symm.trans r1
      cases hkk1.symm.trans r2
      obtain ⟨kE, hkE, -⟩ := Vm.findClass_spec r3
      obtain ⟨kC', hkC', -⟩ := hal.2.2 _ _ hkC
      obtain ⟨kE', hkE', -⟩ := hal.2.2 _ _ hkE
      refine ⟨rfl, cellV, (show T.heap[y]? = some cellV by rw [hT]; exact g1), (fun q h => by rw [h] at g2; cases g2), ⟨kC', hkC'⟩, ?_, ?_⟩
      · exact ⟨kE', hkE'⟩
      · show vm₁.assignable _ _ = true
        rw [hal.assignable]
        exact hasg _ r3
  · by_cases q : dp.toNatClampNeg ≤ k ∧ k < dp.toNatClampNeg + n.toNatClampNeg
    · rw [if_pos q]
      simp only [fv]
      rw [if_pos q]
      rfl
    · rw [if_neg q]
      simp only [fv]
      rw [if_neg q]
/-! casts, statics, texts -/
theorem w_cast0 {cells slots : Nat} (hx : p.tables.exec = Jvm.exec) (hb : c.code = cc) {index : Nat} (hdg : decode cc pc = .ok (.checkcast index, 3)) (kk : W p l e R s m args below meth c H locs cells slots Q (F0 m (pc + 3) ls (vr 0 :: rest))) : W p l e R s m args below meth c H locs cells slots Q (F0 m pc ls (vr 0 :: rest)) := lv_castN hx hb hdg kk
/-- a cast to the object's own class -/
theorem w_castS (hx : p.tables.exec = Jvm.exec) (hb : c.code = cc) (hown : s.vm.findClass own = some m.cls) (hk : KN G s) (hR : Rp G h H) {a i index : Nat} {C : String} (hkd : a = 0 ∨ (h.1 a).1 = i + 1) (hi : i < 100) (hC : (CL[i]?).map (·.1) = some C) (hcl : Cond.classLink own index C ∈ lw_all) (hdg : decode cc pc = .ok (.checkcast index, 3))
    (kk : Wn p l e R s m args below meth c H locs Q (F0 m (pc + 3) ls (vr a :: rest))) : Wn p l e R s m args below meth c H locs Q (F0 m pc ls (vr a :: rest)) := by
  rcases hkd with rfl | hkd
  · exact lv_castN hx hb hdg kk
  · obtain ⟨b, rfl, ho, -⟩ := hR.obj hkd hi
    obtain ⟨r, h1⟩ : ∃ r, CL[i]? = some r := by
      obtain ⟨r, F, h1, -⟩ := ho
      exact ⟨r, h1⟩
    have hr : r.1 = C := by rw [h1] at hC; exact Option.some.inj hC
    subst hr
    exact va_castS hx hb hown (hk.w hcl args) (hk.k.1 i r h1).2 (cls_of hk hC ho) hdg kk
theorem w_castY (hx : p.tables.exec = Jvm.exec) (hb : c.code = cc) (hown : s.vm.findClass own = some m.cls) (hk : KN G s) (hR : Rp G h H) {a i index : Nat} {C nm : String} (hkd : a = 0 ∨ (h.1 a).1 = i + 1) (hi : i < 100) (hC : (CL[i]?).map (·.1) = some C) (hcl : Cond.classLink own index nm ∈ lw_all) (hca : Cond.castable C nm ∈ lw_tbl) (hdg : decode cc pc = .ok (.checkcast index, 3))
    (kk : Wn p l e R s m args below meth c H locs Q (F0 m (pc + 3) ls (vr a :: rest))) : Wn p l e R s m args below meth c H locs Q (F0 m pc ls (vr a :: rest)) := by
  rcases hkd with rfl | hkd
  · exact lv_castN hx hb hdg kk
  · obtain ⟨b, rfl, ho, -⟩ := hR.obj hkd hi
    exact va_castY hx hb hown (hk.w hcl args) (hk.ca hca) (cls_of hk hC ho) hdg kk
/-- a cast of an array to its own class -/
theorem w_castA (hx : p.tables.exec = Jvm.exec) (hb : c.code = cc) (hown : s.vm.findClass own = some m.cls) (hk : KN G s) (hR : Rp G h H) {a t index : Nat} {ty : FieldType} {nm : String} (hkd : (h.1 a).1 = 200 + t) (ht : t < 200) (hty : TYS[t % 100]? = some ty) (hnm : s.vm.findClass nm = some (wT G (t % 100))) (hcl : Cond.classLink own index nm ∈ lw_all) (hdg : decode cc pc = .ok (.checkcast index, 3))
    (kk : Wn p l e R s m args below meth c H locs Q (F0 m (pc + 3) ls (vr a :: rest))) : Wn p l e R s m args below meth c H locs Q (F0 m pc ls (vr a :: rest)) := by
  obtain ⟨b, rfl, e1, -⟩ := arr_cell hR hkd ht hty
  intro T hT X
  obtain ⟨vm', X', st⟩ := X.checkcastYes hx hown (hk.w hcl args) (by rw [hT]; exact e1) rfl hnm (va_asg _ _) (g := F0 m pc ls (.ref b :: rest)) rfl rfl (by rw [hb]; exact hdg)
  obtain ⟨t, a1, b1⟩ := kk (T.setVm vm') hT X'
  exact ⟨t, st t a1, b1⟩
theorem w_instS (hx : p.tables.exec = Jvm.exec) (hb : c.code = cc) (hown : s.vm.findClass own = some m.cls) (hk : KN G s) (hR : Rp G h H) {a i index : Nat} {C nm : String} (hkd : (h.1 a).1 = i + 1) (hi : i < 100) (hC : (CL[i]?).map (·.1) = some C) (hcl : Cond.classLink own index nm ∈ lw_all) (hca : va_Nw (.castable C nm) s) (hdg : decode cc pc = .ok (.instanceof index, 3))
    (kk : Wn p l e R s m args below meth c H locs Q (F0 m (pc + 3) ls (.int 1 :: rest))) : Wn p l e R s m args below meth c H locs Q (F0 m pc ls (vr a :: rest)) := by
  obtain ⟨b, rfl, ho, -⟩ := hR.obj hkd hi
  exact va_instY hx hb hown (hk.w hcl args) hca (cls_of hk hC ho) hdg kk
theorem w_instT (hx : p.tables.exec = Jvm.exec) (hb : c.code = cc) (hown : s.vm.findClass own = some m.cls) (hk : KN G s) (hR : Rp G h H) {a i index : Nat} {C : String} (hkd : (h.1 a).1 = i + 1) (hi : i < 100) (hC : (CL[i]?).map (·.1) = some C) (hcl : Cond.classLink own index C ∈ lw_all) (hdg : decode cc pc = .ok (.instanceof index, 3))
    (kk : Wn p l e R s m args below meth c H locs Q (F0 m (pc + 3) ls (.int 1 :: rest))) : Wn p l e R s m args below meth c H locs Q (F0 m pc ls (vr a :: rest)) := by
  obtain ⟨b, rfl, ho, -⟩ := hR.obj hkd hi
  obtain ⟨q, hq1, hq2⟩ : ∃ q, CL[i]? = some q ∧ q.1 = C := by
    cases e : CL[i]? with
    | none => rw [e] at hC; cases hC
    | some q => rw [e] at hC; exact ⟨q, rfl, Option.some.inj hC⟩
  have hcA := (hk.k.1 i q hq1).2
  rw [hq2] at hcA
  exact va_instS hx hb hown (hk.w hcl args) hcA (cls_of hk hC ho) hdg kk
theorem w_gets (hx : p.tables.exec = Jvm.exec) (hb : c.code = cc) (hown : s.vm.findClass own = some m.cls) (hk : KN G s) (hR : Rp G h H) {index : Nat} {x : String × String × String × Value} {ref : String} (hz : x ∈ STL G) (hlink : Cond.fieldLink own index ref x.2.1 x.2.2.1 ∈ lw_all) (hsame : ∀ y, s.fieldFound? x.1 x.2.1 x.2.2.1 = some y → s.fieldFound? ref x.2.1 x.2.2.1 = some y) (hdg : decode cc pc = .ok (.getstatic index, 3))
    (kk : Wn p l e R s m args below meth c H locs Q (F0 m (pc + 3) ls (x.2.2.2 :: rest))) : Wn p l e R s m args below meth c H locs Q (F0 m pc ls rest) := by
  obtain ⟨cf, kf, fi, f, a, cell, h1, h2, h3, h4, h5, h6, h7, h8⟩ := va_Z.moved hk.2.alike (hk.1.2.2.2.1 x hz)
  have ha : a < wB G := Nat.lt_of_not_le h8
  exact W.gets hx hb hown (hk.w hlink args) (hsame _ h1) h2 h3 h4 (by rw [hR.2.2.2.2.2.1 a ha]; exact h5) (fun e => by rw [e] at h6; cases h6) h7 rfl hdg kk
theorem w_ldcS (hx : p.tables.exec = Jvm.exec) (hb : c.code = cc) (hown : s.vm.findClass own = some m.cls) (hk : KN G s) {index q : Nat} {tx : String} (hz : (own, index, tx, q) ∈ SCL G) (hdg : decode cc pc = .ok (.ldc index, 2))
    (kk : Wn p l e R s m args below meth c H locs Q (F0 m (pc + 2) ls (vr (q + 1) :: rest))) : Wn p l e R s m args below meth c H locs Q (F0 m pc ls rest) :=
  va_ldcS hx hb hown (vk_R.warm hk.2 (hk.1.2.2.2.2.1 _ hz)) hdg kk
/-! returns and throws -/
theorem fen_of {T : State} {cells slots : Nat} {G : Wd} (h1 : s.WarmedH T.vm) (h2 : s.sameButNew ({ T with vm := s.vm } : State) locs cells slots) (hL : ∀ z ∈ locs, wB G ≤ z.base) : FEn G s T := ⟨h1, locs, cells, slots, h2, hL⟩
section RET
variable {d : Nat} {mi : MI} {post : Option Value → VH → Prop} {xp : Nat → VH → Prop}
theorem w_ret0 {cells slots : Nat} {g : JFrame} {v : Option Value} (hR : Rp G h H) (hL : ∀ z ∈ locs, wB G ≤ z.base) (hp : post v h)
    (w : W p l e R s m args below meth c H locs cells slots (MQ below (fun _ _ o t => o = .returned v ∧ t.heap = H) args s cells slots (fun q => wB G ≤ q)) g) :
    W p l e R s m args below meth c H locs cells slots (fun t => ∃ o, t.status = .running ∧ Ended t below o ∧ QD G post xp s o t) g := by
  refine W.mono (fun t ht => ?_) w
  obtain ⟨o, h1, h2, ⟨rfl, h3⟩, L, ⟨-, h4, h5⟩, h6⟩ := ht
  exact ⟨_, h1, h2, Or.inl ⟨v, h, rfl, hp, by rw [h3]; exact hR, h4, L, cells, slots, h5, h6⟩⟩
theorem w_iret {v : Int32} (hx : p.tables.exec = Jvm.exec) (hb : c.code = cc) (hr : meth.sig.returnType = some .int) (hlocks : meth.locks = false) (hR : Rp G h H) (hL : ∀ z ∈ locs, wB G ≤ z.base) (hdg : decode cc pc = .ok (.ireturn, 1)) (hp : post (some (.int v)) h) :
    Wn p l e R s m args below meth c H locs (fun t => ∃ o, t.status = .running ∧ Ended t below o ∧ QD G post xp s o t) (F0 m pc ls [.int v]) :=
  w_ret0 hR hL hp (W.iret hx hb hr (fun t ht _ => ⟨rfl, ht⟩) hL hdg hlocks)
theorem w_zret {v : Int32} {ty : FieldType} (hx : p.tables.exec = Jvm.exec) (hb : c.code = cc) (hr : meth.sig.returnType = some ty) (hlocks : meth.locks = false) (hR : Rp G h H) (hL : ∀ z ∈ locs, wB G ≤ z.base) (hdg : decode cc pc = .ok (.ireturn, 1)) (hn : narrow ty (.int v) = .int v) (hp : post (some (.int v)) h) :
    Wn p l e R s m args below meth c H locs (fun t => ∃ o, t.status = .running ∧ Ended t below o ∧ QD G post xp s o t) (F0 m pc ls [.int v]) :=
  w_ret0 hR hL hp (W.zret hx hb hr hn (fun t ht _ => ⟨rfl, ht⟩) hL hdg hlocks)
theorem w_lret {v : Int64} (hx : p.tables.exec = Jvm.exec) (hb : c.code = cc) (hr : meth.sig.returnType = some .long) (hlocks : meth.locks = false) (hR : Rp G h H) (hL : ∀ z ∈ locs, wB G ≤ z.base) (hdg : decode cc pc = .ok (.lreturn, 1)) (hp : post (some (.long v)) h) :
    Wn p l e R s m args below meth c H locs (fun t => ∃ o, t.status = .running ∧ Ended t below o ∧ QD G post xp s o t) (F0 m pc ls [.long v]) :=
  w_ret0 hR hL hp (W.lret hx hb hr (fun t ht _ => ⟨rfl, ht⟩) hL hdg hlocks)
theorem w_vret (hx : p.tables.exec = Jvm.exec) (hb : c.code = cc) (hr : meth.sig.returnType = none) (hlocks : meth.locks = false) (hR : Rp G h H) (hL : ∀ z ∈ locs, wB G ≤ z.base) (hdg : decode cc pc = .ok (.return_, 1)) (hp : post none h) :
    Wn p l e R s m args below meth c H locs (fun t => ∃ o, t.status = .running ∧ Ended t below o ∧ QD G post xp s o t) (F0 m pc ls []) :=
  w_ret0 hR hL hp (W.vret hx hb hr (fun t ht _ => ⟨rfl, ht⟩) hL hdg hlocks)
theorem w_aret {a : Nat} {rt : FieldType} (hx : p.tables.exec = Jvm.exec) (hb : c.code = cc) (hr : meth.sig.returnType = some rt) (hrt : (∃ n, rt = .object n) ∨ ∃ t, rt = .array t) (hlocks : meth.locks = false) (hR : Rp G h H) (hL : ∀ z ∈ locs, wB G ≤ z.base) (hdg : decode cc pc = .ok (.areturn, 1)) (hp : post (some (vr a)) h) :
    Wn p l e R s m args below meth c H locs (fun t => ∃ o, t.status = .running ∧ Ended t below o ∧ QD G post xp s o t) (F0 m pc ls [vr a]) :=
  w_ret0 hR hL hp (W.aret hx hb hr hrt (by cases a <;> first | exact Or.inl rfl | exact Or.inr ⟨_, rfl⟩) (fun t ht _ => ⟨rfl, ht⟩) hL hdg hlocks)
/-- the exception leaves the method -/
theorem x_out {q : Nat} (hown : s.vm.findClass own = some m.cls) (hlocks : meth.locks = false) (hR : Rp G h H) (hL : ∀ z ∈ locs, wB G ≤ z.base) (hout : ∀ x ∈ c.exceptionTable.toList, covers x pc = false) (hq : (h.1 (q + 1)).1 ≠ 0 ∧ (h.1 (q + 1)).1 < 100) (hp : xp (q + 1) h) :
    Xn p l e R s m args below meth c H locs (fun t => ∃ o, t.status = .running ∧ Ended t below o ∧ QD G post xp s o t) (F0 m pc ls rest) q := by
  intro T hT X
  obtain ⟨st1, hrun, hend, hW, hsm⟩ := X.leaveThrown q (g := F0 m pc ls rest) rfl rfl rfl hout hlocks
  obtain ⟨i, hi⟩ : ∃ i, (h.1 (q + 1)).1 = i + 1 := ⟨(h.1 (q + 1)).1 - 1, by omega⟩
  obtain ⟨b, hb, ho, -⟩ := hR.obj hi (by omega)
  have hbq : b = q := by omega
  subst hbq
  obtain ⟨r, F, h1, h2, ⟨cell, g1, g2, g3, -⟩, -⟩ := ho
  have hcell9 : (T.setFrames (.throwing b :: below)).heap[b]? = some cell := by
    show T.heap[b]? = some cell
    rw [hT]; exact g1
  exact ⟨_, st1, .threw b, hrun, hend, Or.inr ⟨b, h, cell, rfl, ⟨hq.1, hq.2, hp⟩, (show Rp G h T.heap by rw [hT]; exact hR), hcell9, g3, hW, locs, _, _, hsm, hL⟩⟩
end RET
theorem w_athrow (hx : p.tables.exec = Jvm.exec) (hb : c.code = cc) {a : Nat} (hdg : decode cc pc = .ok (.athrow, 1)) (ha : a ≠ 0) (k : ∀ q, a = q + 1 → Xn p l e R s m args below meth c H locs Q (F0 m pc ls rest) q) : Wn p l e R s m args below meth c H locs Q (F0 m pc ls (vr a :: rest)) := by
  cases a with
  | zero => exact absurd rfl ha
  | succ q => exact vx_athrow hx hb hdg (k q rfl)
/-! the call -/
def COK (p : Program) (l : Launch) (e : Env) (R : Room) (s : State) (m : MethodId) (args : Array Value) (below : List Frame) (meth : Method) (c : Code) (H : Heap) (y : MethodName) (len pc : Nat) (As : List Value) : Prop :=
  ∀ (T : State) (locs : List Loc) (cells slots : Nat) (ls : Array Slot) (rest : List Value) (W9 : Nat) (Pre : Pt → Array Value → Prop) (Post : Pt → Array Value → Option Value → Pt → Prop) (PostX : Pt → Array Value → Addr → Pt → Prop),
    T.heap = H → Stand p l e R s m args below meth c T locs cells slots → ls.size = c.maxLocals → vx_Back l R p e below s args y len W9 Pre Post PostX → (rest.map fun v => v.category).sum ≤ W9 → (∀ vm₁, s.WarmedH vm₁ → Pre ⟨T.setVm vm₁, locs, cells, slots⟩ As.toArray) →
    (∃ (v : Option Value) (vm₁ : Vm) (B : Pt), s.WarmedH vm₁ ∧ Stand p l e R s m args below meth c B.U B.locs B.cells B.slots ∧ Post ⟨T.setVm vm₁, locs, cells, slots⟩ As.toArray v B ∧
      ∀ target, Steps p.tables e below (B.U.setTop (F0 m (pc + len) ls (v.toList ++ rest))) target → Steps p.tables e below (T.setTop (F0 m pc ls (As.reverse ++ rest))) target) ∨
    (∃ (q : Addr) (vm₁ : Vm) (B : Pt), s.WarmedH vm₁ ∧ Stand p l e R s m args below meth c B.U B.locs B.cells B.slots ∧ PostX ⟨T.setVm vm₁, locs, cells, slots⟩ As.toArray q B ∧
      Steps p.tables e below (T.setTop (F0 m pc ls (As.reverse ++ rest))) ((B.U.setTop (F0 m pc ls rest)).pushFrame (.throwing q)))
theorem w_call {d len : Nat} {mi : MI} {As : List VT} {st : List Value} {post : Option Value → VH → Prop} {xp : Nat → VH → Prop} (hk : KN G s) (hR : Rp G h H) (hL : ∀ z ∈ locs, wB G ≤ z.base) (hml : ls.size = c.maxLocals) (hsB : wB G ≤ s.heap.size) (htr : l.stackTraces = false) (hRr : d + 1 ≤ R.frames ∧ 96 * (d + 1) ≤ R.locals ∧ wC G ≤ R.cells + s.heap.size ∧ wS G ≤ R.slots + tsl s.heap ∧ 8 ≤ d)
    (hcok : COK p l e R s m args below meth c H mi.1 len pc (As.map tv)) (hD : D G l d mi As h post xp) (hcode : miW mi ∈ lw_all) (hini : Cond.initialized mi.1.cls ∈ lw_all) (hmax : mi.2.2.1 ≤ 53) (hrest : (rest.map fun v => v.category).sum ≤ 32) (hst : st = (As.map tv).reverse ++ rest)
    (kk : ∀ (v : Option Value) (h1 : VH) (H1 : Heap) (locs1 : List Loc), post v h1 → Rp G h1 H1 → (∀ z ∈ locs1, wB G ≤ z.base) → Wn p l e R s m args below meth c H1 locs1 Q (F0 m (pc + len) ls (v.toList ++ rest)))
    (kx : ∀ (q : Nat) (h1 : VH) (H1 : Heap) (locs1 : List Loc), xk xp (q + 1) h1 → Rp G h1 H1 → (∀ z ∈ locs1, wB G ≤ z.base) → Xn p l e R s m args below meth c H1 locs1 Q (F0 m pc ls rest) q) :
    Wn p l e R s m args below meth c H locs Q (F0 m pc ls st) := by
  subst hst
  intro T hT X
  obtain ⟨hsz, hts⟩ := stand_sz X
  subst hT
  have r1 := hR.1
  have r2 := hR.2.1
  have r3 := hR.2.2.1
  have r4 := hR.2.2.2.1
  rcases hcok T locs (T.heap.size - s.heap.size) (tsl T.heap - tsl s.heap) ls rest 32 _ _ _ rfl X hml (d_back hD hRr.1 (W9 := 32) (by omega) hk hcode hini) hrest (fun vm₁ hW₁ => ⟨by show (T.heap.size - s.heap.size) + (wC G + 1 - h.2.1) ≤ R.cells; omega, by show (tsl T.heap - tsl s.heap) + (wS G - h.2.2) ≤ R.slots; omega, rfl, hR, hk.warm hW₁, htr⟩) with ⟨v, vm₁, ⟨U', l2, c2, s2⟩, hW₁, X', ⟨h1, L, hp, hR1, e1, hL1⟩, st⟩ | ⟨q, vm₁, ⟨U', l2, c2, s2⟩, hW₁, X', ⟨h1, L, hp, hR1, e1, hL1⟩, st⟩
  · dsimp only [Pt.U, Pt.locs, Pt.cells, Pt.slots] at X' e1 st hR1
    subst e1
    obtain ⟨t, a1, b1⟩ := W.nar (kk v h1 U'.heap (locs ++ L) hp hR1 (fun z hz => (List.mem_append.mp hz).elim (hL z) (hL1 z))) U' rfl X'
    exact ⟨t, st t a1, b1⟩
  · dsimp only [Pt.U, Pt.locs, Pt.cells, Pt.slots] at X' e1 st hR1
    subst e1
    obtain ⟨t, a1, b1⟩ := Xn_nar (kx q h1 U'.heap (locs ++ L) hp hR1 (fun z hz => (List.mem_append.mp hz).elim (hL z) (hL1 z))) U' rfl X'
    exact ⟨t, Steps.trans st a1, b1⟩
end ROWS2
section COKS
variable {p : Program} {l : Launch} {e : Env} {R : Room} {s : State} {m : MethodId} {args : Array Value} {below : List Frame} {meth : Method} {c : Code} {H : Heap} {locs : List Loc} {Q : State → Prop} {G : Wd} {h : VH}
variable {cc : ByteArray} {pc : Nat} {ls : Array Slot} {rest : List Value} {own : String} {index : Nat} {y : MethodName} {bytes : ByteArray} {maxL : Nat} {ret : Option FieldType} {hh : List (Nat × Nat × Nat × Nat)} {argsL : List Value}
/-- the descriptor has as many parameters as are given -/
def nPar (y : MethodName) (n : Nat) : Prop := (parseMethodDescriptor y.desc).map (fun d => d.parameters.length) = some n
theorem nPar.use {n : Nat} (h : nPar y n) (hl : argsL.length = n) : ∀ sig, parseMethodDescriptor y.desc = some sig → argsL.length = sig.parameters.length := by
  intro sig h2
  unfold nPar at h
  rw [h2] at h
  rw [hl]
  exact (Option.some.inj h).symm
def notMH (y : MethodName) : Prop := y.cls ≠ "java/lang/invoke/MethodHandle" ∧ y.cls ≠ "java/lang/invoke/VarHandle"
theorem mon0 {W9 : Nat} (h : (rest.map fun v => v.category).sum ≤ W9) {st : List Value} : 2 * (F0 m pc ls st).monitorRoom + (rest.map fun v => v.category).sum ≤ W9 := by
  show 2 * 0 + _ ≤ W9
  omega
theorem cok_V (hx : p.tables.exec = Jvm.exec) (hb : c.code = cc) (hown : s.vm.findClass own = some m.cls) (hk : KN G s) (hR : Rp G h H) {a i n : Nat} {C : String} (hkd : (h.1 a).1 = i + 1) (hi : i < 100) (hC : (CL[i]?).map (·.1) = some C)
    (q1 : Cond.methodLink own index y ∈ lw_all) (q2 : Cond.instanceMethod y ∈ lw_all) (q3 : Cond.selects C y y ∈ lw_all) (q4 : Cond.code y bytes maxL ret ∈ lw_all) (hy : notMH y) (hn : nPar y n) (hln : argsL.length = n) (hdg : decode cc pc = .ok (.invokevirtual index, 3)) :
    COK p l e R s m args below meth c H y 3 pc (vr a :: argsL) := by
  obtain ⟨b, rfl, ho, -⟩ := hR.obj hkd hi
  obtain ⟨cellB, g1, g2, g3⟩ := cls_of hk hC ho
  intro T locs cells slots ls rest W9 Pre Post PostX hT X hls hK hW hpre
  exact vx_callV X hx hown (hk.w q1 args) (hk.w q2 args) (hk.w q3 args) (hk.w q4 args) hy hK (by rw [hT]; exact g1) g2 g3 (g := F0 m pc ls ((vr (b + 1) :: argsL).reverse ++ rest)) rfl hls (argsL := argsL) (rest := rest) (hn.use hln) (by simp [vr]) (mon0 hW) (by rw [hb]; exact hdg) hpre
theorem cok_VX (hx : p.tables.exec = Jvm.exec) (hb : c.code = cc) (hown : s.vm.findClass own = some m.cls) (hk : KN G s) (hR : Rp G h H) {a i n : Nat} {C : String} (hkd : (h.1 a).1 = i + 1) (hi : i < 100) (hC : (CL[i]?).map (·.1) = some C)
    (q1 : Cond.methodLink own index y ∈ lw_all) (q2 : Cond.instanceMethod y ∈ lw_all) (q3 : Cond.selects C y y ∈ lw_all) (q4 : Cond.codeWith y bytes maxL ret hh ∈ lw_all) (hy : notMH y) (hn : nPar y n) (hln : argsL.length = n) (hdg : decode cc pc = .ok (.invokevirtual index, 3)) :
    COK p l e R s m args below meth c H y 3 pc (vr a :: argsL) := by
  obtain ⟨b, rfl, ho, -⟩ := hR.obj hkd hi
  obtain ⟨cellB, g1, g2, g3⟩ := cls_of hk hC ho
  intro T locs cells slots ls rest W9 Pre Post PostX hT X hls hK hW hpre
  exact vx_callVX X hx hown (hk.w q1 args) (hk.w q2 args) (hk.w q3 args) (hk.w q4 args) hy hK (by rw [hT]; exact g1) g2 g3 (g := F0 m pc ls ((vr (b + 1) :: argsL).reverse ++ rest)) rfl hls (argsL := argsL) (rest := rest) (hn.use hln) (by simp [vr]) (mon0 hW) (by rw [hb]; exact hdg) hpre
theorem cok_VN (hx : p.tables.exec = Jvm.exec) (hb : c.code = cc) (hown : s.vm.findClass own = some m.cls) (hk : KN G s) (hR : Rp G h H) {a i n : Nat} {C host : String} (hkd : (h.1 a).1 = i + 1) (hi : i < 100) (hC : (CL[i]?).map (·.1) = some C)
    (q1 : Cond.methodLinkNest own index y host ∈ lw_tbl) (q2 : Cond.instanceMethod y ∈ lw_all) (q3 : Cond.selects C y y ∈ lw_all) (q4 : Cond.code y bytes maxL ret ∈ lw_all) (hy : notMH y) (hn : nPar y n) (hln : argsL.length = n) (hdg : decode cc pc = .ok (.invokevirtual index, 3)) :
    COK p l e R s m args below meth c H y 3 pc (vr a :: argsL) := by
  obtain ⟨b, rfl, ho, -⟩ := hR.obj hkd hi
  obtain ⟨cellB, g1, g2, g3⟩ := cls_of hk hC ho
  intro T locs cells slots ls rest W9 Pre Post PostX hT X hls hK hW hpre
  exact vx_callVN X hx hown (hk.nM q1 args) (hk.w q2 args) (hk.w q3 args) (hk.w q4 args) hy hK (by rw [hT]; exact g1) g2 g3 (g := F0 m pc ls ((vr (b + 1) :: argsL).reverse ++ rest)) rfl hls (argsL := argsL) (rest := rest) (hn.use hln) (by simp [vr]) (mon0 hW) (by rw [hb]; exact hdg) hpre
theorem cok_S (hx : p.tables.exec = Jvm.exec) (hb : c.code = cc) (hown : s.vm.findClass own = some m.cls) (hk : KN G s) {n : Nat}
    (q1 : Cond.methodLink own index y ∈ lw_all) (q2 : Cond.static y ∈ lw_all) (q3 : Cond.initialized y.cls ∈ lw_all) (q4 : Cond.code y bytes maxL ret ∈ lw_all) (hy : notMH y) (hn : nPar y n) (hln : argsL.length = n) (hdg : decode cc pc = .ok (.invokestatic index, 3)) :
    COK p l e R s m args below meth c H y 3 pc argsL := by
  intro T locs cells slots ls rest W9 Pre Post PostX hT X hls hK hW hpre
  exact vx_callS X hx hown (hk.w q1 args) (hk.w q2 args) (hk.w q3 args) (hk.w q4 args) hy hK (g := F0 m pc ls (argsL.reverse ++ rest)) rfl hls (argsL := argsL) (rest := rest) (hn.use hln) rfl (mon0 hW) (by rw [hb]; exact hdg) hpre
theorem cok_SX (hx : p.tables.exec = Jvm.exec) (hb : c.code = cc) (hown : s.vm.findClass own = some m.cls) (hk : KN G s) {n : Nat}
    (q1 : Cond.methodLink own index y ∈ lw_all) (q2 : Cond.static y ∈ lw_all) (q3 : Cond.initialized y.cls ∈ lw_all) (q4 : Cond.codeWith y bytes maxL ret hh ∈ lw_all) (hy : notMH y) (hn : nPar y n) (hln : argsL.length = n) (hdg : decode cc pc = .ok (.invokestatic index, 3)) :
    COK p l e R s m args below meth c H y 3 pc argsL := by
  intro T locs cells slots ls rest W9 Pre Post PostX hT X hls hK hW hpre
  exact vx_callSX X hx hown (hk.w q1 args) (hk.w q2 args) (hk.w q3 args) (hk.w q4 args) hy hK (g := F0 m pc ls (argsL.reverse ++ rest)) rfl hls (argsL := argsL) (rest := rest) (hn.use hln) rfl (mon0 hW) (by rw [hb]; exact hdg) hpre
theorem cok_SN (hx : p.tables.exec = Jvm.exec) (hb : c.code = cc) (hown : s.vm.findClass own = some m.cls) (hk : KN G s) {n : Nat} {host : String}
    (q1 : Cond.methodLinkNest own index y host ∈ lw_tbl) (q2 : Cond.static y ∈ lw_all) (q3 : Cond.initialized y.cls ∈ lw_all) (q4 : Cond.code y bytes maxL ret ∈ lw_all) (hy : notMH y) (hn : nPar y n) (hln : argsL.length = n) (hdg : decode cc pc = .ok (.invokestatic index, 3)) :
    COK p l e R s m args below meth c H y 3 pc argsL := by
  intro T locs cells slots ls rest W9 Pre Post PostX hT X hls hK hW hpre
  exact vx_callSN X hx hown (hk.nM q1 args) (hk.w q2 args) (hk.w q3 args) (hk.w q4 args) hy hK (g := F0 m pc ls (argsL.reverse ++ rest)) rfl hls (argsL := argsL) (rest := rest) (hn.use hln) rfl (mon0 hW) (by rw [hb]; exact hdg) hpre
theorem cok_I (hx : p.tables.exec = Jvm.exec) (hb : c.code = cc) (hown : s.vm.findClass own = some m.cls) (hk : KN G s) {a n : Nat} (ha : a ≠ 0) (hy1 : y.name = "<init>")
    (q1 : Cond.methodLink own index y ∈ lw_all) (q2 : Cond.instanceMethod y ∈ lw_all) (q4 : Cond.code y bytes maxL none ∈ lw_all) (hy : notMH y) (hn : nPar y n) (hln : argsL.length = n) (hdg : decode cc pc = .ok (.invokespecial index, 3)) :
    COK p l e R s m args below meth c H y 3 pc (vr a :: argsL) := by
  obtain ⟨b, rfl⟩ : ∃ b, a = b + 1 := ⟨a - 1, by omega⟩
  intro T locs cells slots ls rest W9 Pre Post PostX hT X hls hK hW hpre
  exact vx_callI X hx hown hy1 (hk.w q1 args) (hk.w q2 args) (hk.w q4 args) hy hK (g := F0 m pc ls ((vr (b + 1) :: argsL).reverse ++ rest)) rfl hls (argsL := argsL) (rest := rest) (hn.use hln) (by simp [vr]) (mon0 hW) (by rw [hb]; exact hdg) hpre
theorem cok_IN (hx : p.tables.exec = Jvm.exec) (hb : c.code = cc) (hown : s.vm.findClass own = some m.cls) (hk : KN G s) {a n : Nat} {host : String} (ha : a ≠ 0) (hy1 : y.name = "<init>")
    (q1 : Cond.methodLinkNest own index y host ∈ lw_tbl) (q2 : Cond.instanceMethod y ∈ lw_all) (q4 : Cond.code y bytes maxL none ∈ lw_all) (hy : notMH y) (hn : nPar y n) (hln : argsL.length = n) (hdg : decode cc pc = .ok (.invokespecial index, 3)) :
    COK p l e R s m args below meth c H y 3 pc (vr a :: argsL) := by
  obtain ⟨b, rfl⟩ : ∃ b, a = b + 1 := ⟨a - 1, by omega⟩
  intro T locs cells slots ls rest W9 Pre Post PostX hT X hls hK hW hpre
  exact vx_callIN X hx hown hy1 (hk.nM q1 args) (hk.w q2 args) (hk.w q4 args) hy hK (g := F0 m pc ls ((vr (b + 1) :: argsL).reverse ++ rest)) rfl hls (argsL := argsL) (rest := rest) (hn.use hln) (by simp [vr]) (mon0 hW) (by rw [hb]; exact hdg) hpre
/-- an inherited method, or one of a class above the link's -/
theorem cok_U (hx : p.tables.exec = Jvm.exec) (hb : c.code = cc) (hown : s.vm.findClass own = some m.cls) (hk : KN G s) (hR : Rp G h H) {a i n : Nat} {C owner : String} {x : MethodName} (hkd : (h.1 a).1 = i + 1) (hi : i < 100) (hC : (CL[i]?).map (·.1) = some C)
    (q1 : Cond.methodLink own index x ∈ lw_all) (q5 : Cond.sameMethod x.cls owner x.name x.desc ∈ lw_all) (q6 : va_Decl s ⟨owner, x.name, x.desc⟩) (ho1 : owner ≠ "java/lang/invoke/MethodHandle" ∧ owner ≠ "java/lang/invoke/VarHandle") (q2 : Cond.instanceMethod y ∈ lw_all) (q3 : Cond.selects C x y ∈ lw_all) (q4 : Cond.code y bytes maxL ret ∈ lw_all) (hn : nPar x n) (hln : argsL.length = n) (hdg : decode cc pc = .ok (.invokevirtual index, 3)) :
    COK p l e R s m args below meth c H y 3 pc (vr a :: argsL) := by
  obtain ⟨b, rfl, ho, -⟩ := hR.obj hkd hi
  obtain ⟨cellB, g1, g2, g3⟩ := cls_of hk hC ho
  intro T locs cells slots ls rest W9 Pre Post PostX hT X hls hK hW hpre
  exact vx_callVU X hx hown (hk.w q1 args) (hk.w q5 args) q6 ho1 (hk.w q3 args) (hk.w q2 args) (hk.w q4 args) hK (by rw [hT]; exact g1) g2 g3 (g := F0 m pc ls ((vr (b + 1) :: argsL).reverse ++ rest)) rfl hls (argsL := argsL) (rest := rest) (hn.use hln) (by simp [vr]) (mon0 hW) (by rw [hb]; exact hdg) hpre
/-- super.y(..) -/
theorem cok_SU (hx : p.tables.exec = Jvm.exec) (hb : c.code = cc) (hown : s.vm.findClass own = some m.cls) (hk : KN G s) (hR : Rp G h H) {a i n : Nat} {C : String} (hkd : (h.1 a).1 = i + 1) (hi : i < 100) (hC : (CL[i]?).map (·.1) = some C)
    (q1 : Cond.methodLink own index y ∈ lw_all) (q5 : Cond.sameMethod y.cls y.cls y.name y.desc ∈ lw_all) (q6 : Cond.superclass own y.cls ∈ lw_all) (q2 : Cond.instanceMethod y ∈ lw_all) (q4 : Cond.code y bytes maxL ret ∈ lw_all) (hno : y.name ≠ "<init>") (hn : nPar y n) (hln : argsL.length = n) (hdg : decode cc pc = .ok (.invokespecial index, 3)) :
    COK p l e R s m args below meth c H y 3 pc (vr a :: argsL) := by
  obtain ⟨b, rfl, ho, -⟩ := hR.obj hkd hi
  obtain ⟨cellB, g1, g2, g3⟩ := cls_of hk hC ho
  obtain ⟨kB, hkB, -⟩ := Vm.findClass_spec g3
  intro T locs cells slots ls rest W9 Pre Post PostX hT X hls hK hW hpre
  exact vx_callSU X hx hown (hk.w q1 args) (hk.w q5 args) (hk.w q6 args) (hk.w q2 args) (hk.w q4 args) hno hK (by rw [hT]; exact g1) g2 hkB (g := F0 m pc ls ((vr (b + 1) :: argsL).reverse ++ rest)) rfl hls (argsL := argsL) (rest := rest) (hn.use hln) (by simp [vr]) (mon0 hW) (by rw [hb]; exact hdg) hpre
/-- through an interface -/
theorem cok_F (hx : p.tables.exec = Jvm.exec) (hb : c.code = cc) (hown : s.vm.findClass own = some m.cls) (hk : KN G s) (hR : Rp G h H) {a i n count : Nat} {C : String} {x : MethodName} (hkd : (h.1 a).1 = i + 1) (hi : i < 100) (hC : (CL[i]?).map (·.1) = some C) (hxm : notMH x)
    (q1 : Cond.methodLink own index x ∈ lw_all) (f1 : Cond.declares x ∈ lw_tbl) (f2 : Cond.interfaceMethod x.cls x.cls x.name x.desc ∈ lw_tbl) (f3 : Cond.publicMethod y ∈ lw_tbl) (f4 : Cond.unhidden C x.name x.desc ∈ lw_tbl) (f5 : Cond.castable C x.cls ∈ lw_tbl)
    (q2 : Cond.instanceMethod y ∈ lw_all) (q3 : Cond.selects C x y ∈ lw_all) (q4 : Cond.code y bytes maxL ret ∈ lw_all) (hn : nPar x n) (hln : argsL.length = n) (hdg : decode cc pc = .ok (.invokeinterface index count, 5)) :
    COK p l e R s m args below meth c H y 5 pc (vr a :: argsL) := by
  obtain ⟨b, rfl, ho, -⟩ := hR.obj hkd hi
  obtain ⟨cellB, g1, g2, g3⟩ := cls_of hk hC ho
  obtain ⟨kB, hkB, -⟩ := Vm.findClass_spec g3
  obtain ⟨w1, w2, w3, w4, w5⟩ := hk.fw (C := C) (x := x) (y := y) hxm f1 f2 f3 f4 f5
  intro T locs cells slots ls rest W9 Pre Post PostX hT X hls hK hW hpre
  exact vx_callIF X hx hown (hk.w q1 args) (va_any rfl w1) (va_any rfl w2) (hk.w q3 args) (hk.w q2 args) (va_any rfl w3) (va_any rfl w4) (va_any rfl w5) (hk.w q4 args) hxm hK (by rw [hT]; exact g1) g2 g3 hkB (g := F0 m pc ls ((vr (b + 1) :: argsL).reverse ++ rest)) rfl hls (argsL := argsL) (rest := rest) (hn.use hln) (by simp [vr]) (mon0 hW) (by rw [hb]; exact hdg) hpre
theorem cok_FW (hx : p.tables.exec = Jvm.exec) (hb : c.code = cc) (hown : s.vm.findClass own = some m.cls) (hk : KN G s) (hR : Rp G h H) {a i n count : Nat} {C : String} {x : MethodName} (hkd : (h.1 a).1 = i + 1) (hi : i < 100) (hC : (CL[i]?).map (·.1) = some C) (hxm : notMH x)
    (q1 : Cond.methodLink own index x ∈ lw_all) (f1 : Cond.declares x ∈ lw_tbl) (f2 : Cond.interfaceMethod x.cls x.cls x.name x.desc ∈ lw_tbl) (f3 : Cond.publicMethod y ∈ lw_tbl) (f4 : Cond.unhidden C x.name x.desc ∈ lw_tbl) (f5 : Cond.castable C x.cls ∈ lw_tbl)
    (q2 : Cond.instanceMethod y ∈ lw_all) (q3 : Cond.selects C x y ∈ lw_all) (q4 : Cond.codeWith y bytes maxL ret hh ∈ lw_all) (hn : nPar x n) (hln : argsL.length = n) (hdg : decode cc pc = .ok (.invokeinterface index count, 5)) :
    COK p l e R s m args below meth c H y 5 pc (vr a :: argsL) := by
  obtain ⟨b, rfl, ho, -⟩ := hR.obj hkd hi
  obtain ⟨cellB, g1, g2, g3⟩ := cls_of hk hC ho
  obtain ⟨kB, hkB, -⟩ := Vm.findClass_spec g3
  obtain ⟨w1, w2, w3, w4, w5⟩ := hk.fw (C := C) (x := x) (y := y) hxm f1 f2 f3 f4 f5
  intro T locs cells slots ls rest W9 Pre Post PostX hT X hls hK hW hpre
  exact vx_callIFW X hx hown (hk.w q1 args) (va_any rfl w1) (va_any rfl w2) (hk.w q3 args) (hk.w q2 args) (va_any rfl w3) (va_any rfl w4) (va_any rfl w5) (hk.w q4 args) hxm hK (by rw [hT]; exact g1) g2 g3 hkB (g := F0 m pc ls ((vr (b + 1) :: argsL).reverse ++ rest)) rfl hls (argsL := argsL) (rest := rest) (hn.use hln) (by simp [vr]) (mon0 hW) (by rw [hb]; exact hdg) hpre
theorem KN.selP {G : Wd} {s : State} (h : KN G s) {y : MethodName} {C : String} {i : Nat} (hC : (CL[i]?).map (·.1) = some C) (hy : notMH y) (q1 : Cond.privateMethod y ∈ lw_tbl) (q2 : Cond.instanceMethod y ∈ lw_all) (q3 : Cond.sameMethod y.cls y.cls y.name y.desc ∈ lw_all) (args : Array Value) : (Cond.selects C y y).before args s = true := by
  obtain ⟨A0, h0⟩ := h.1.1
  have hpriv := h0 _ q1
  obtain ⟨q, hq1, hq2⟩ : ∃ q, CL[i]? = some q ∧ q.1 = C := by
    cases e : CL[i]? with
    | none => rw [e] at hC; cases hC
    | some q => rw [e] at hC; exact ⟨q, rfl, Option.some.inj hC⟩
  have hcl := (h.1.2.1.1 i q hq1).2.1
  rw [hq2] at hcl
  obtain ⟨mk, methM, hnamed, hmethM, -, -⟩ := Cond.instanceMethod_spec (h0 _ (lw_all_tbl q2))
  have hfound : (wF G).methodFound? y.cls y.name y.desc = some mk := State.methodFound?_of_named hnamed hy
  have hsel : ∀ c, selectMethod {} (wF G).vm c mk = .method mk := fun c => selectMethod_private hmethM (Cond.privateMethod_at hpriv mk methM hnamed hmethM)
  obtain ⟨-, ck, hck, hni⟩ := Cond.sameMethod_spec (findClass_of_methodNamed hnamed) hfound (h0 _ (lw_all_tbl q3))
  refine word_at h.2 (Or.inl rfl) (args := A0) ?_
  simp only [Cond.before, Cond.holds, Cond.value, hcl, hfound, hnamed, hsel, hck]
  simp [hni]
theorem cok_P (hx : p.tables.exec = Jvm.exec) (hb : c.code = cc) (hown : s.vm.findClass own = some m.cls) (hk : KN G s) (hR : Rp G h H) {a i n : Nat} {C : String} (hkd : (h.1 a).1 = i + 1) (hi : i < 100) (hC : (CL[i]?).map (·.1) = some C)
    (q1 : Cond.methodLink own index y ∈ lw_all) (q2 : Cond.instanceMethod y ∈ lw_all) (q3 : Cond.privateMethod y ∈ lw_tbl) (q5 : Cond.sameMethod y.cls y.cls y.name y.desc ∈ lw_all) (q4 : Cond.code y bytes maxL ret ∈ lw_all) (hy : notMH y) (hn : nPar y n) (hln : argsL.length = n) (hdg : decode cc pc = .ok (.invokevirtual index, 3)) :
    COK p l e R s m args below meth c H y 3 pc (vr a :: argsL) := by
  obtain ⟨b, rfl, ho, -⟩ := hR.obj hkd hi
  obtain ⟨cellB, g1, g2, g3⟩ := cls_of hk hC ho
  intro T locs cells slots ls rest W9 Pre Post PostX hT X hls hK hW hpre
  exact vx_callV X hx hown (hk.w q1 args) (hk.w q2 args) (hk.selP hC hy q3 q2 q5 args) (hk.w q4 args) hy hK (by rw [hT]; exact g1) g2 g3 (g := F0 m pc ls ((vr (b + 1) :: argsL).reverse ++ rest)) rfl hls (argsL := argsL) (rest := rest) (hn.use hln) (by simp [vr]) (mon0 hW) (by rw [hb]; exact hdg) hpre
end COKS
/-! numbers -/
def jI (z : Int) : Int32 := Int32.ofInt z
def jL (z : Int) : Int64 := Int64.ofInt z
def jmax (x y : Int32) : Int32 := if x < y then y else x
def jmin (x y : Int32) : Int32 := if y < x then y else x
def jrem (x y : Int32) : Int32 := x - x / y * y
def jlrem (x y : Int64) : Int64 := x - x / y * y
def jshl (x y : Int32) : Int32 := x <<< (y &&& 31)
def jshr (x y : Int32) : Int32 := x >>> (y &&& 31)
def jushr (x y : Int32) : Int32 := (x.toUInt32 >>> (y.toUInt32 &&& Int32.toUInt32 31)).toInt32
def jlshl (x : Int64) (y : Int32) : Int64 := x <<< (y.toInt64 &&& 63)
def jlshr (x : Int64) (y : Int32) : Int64 := x >>> (y.toInt64 &&& 63)
def jlushr (x : Int64) (y : Int32) : Int64 := (x.toUInt64 >>> (y.toInt64.toUInt64 &&& Int64.toUInt64 63)).toInt64
def ji2c (x : Int32) : Int32 := (x.toUInt32 % 65536).toInt32
def ji2b (x : Int32) : Int32 := x.toInt8.toInt32
section ROWS3
variable {p : Program} {l : Launch} {e : Env} {R : Room} {s : State} {m : MethodId} {args : Array Value} {below : List Frame} {meth : Method} {c : Code} {H : Heap} {locs : List Loc} {Q : State → Prop} {cells slots : Nat}
variable {cc : ByteArray} {pc : Nat} {ls : Array Slot} {rest : List Value} {own : String}
theorem w_iconst (hx : p.tables.exec = Jvm.exec) (hb : c.code = cc) {n : Int} (hdg : decode cc pc = .ok (.iconst n, 1)) (k : W p l e R s m args below meth c H locs cells slots Q (F0 m (pc + 1) ls (.int (jI n) :: rest))) : W p l e R s m args below meth c H locs cells slots Q (F0 m pc ls rest) := lv_iconst hx hb hdg rfl k
theorem w_bipush (hx : p.tables.exec = Jvm.exec) (hb : c.code = cc) {n : Int} (hdg : decode cc pc = .ok (.bipush n, 2)) (hv : (Int8.ofInt n).toInt32 = jI n) (k : W p l e R s m args below meth c H locs cells slots Q (F0 m (pc + 2) ls (.int (jI n) :: rest))) : W p l e R s m args below meth c H locs cells slots Q (F0 m pc ls rest) := lv_bipush hx hb hdg hv k
theorem w_sipush (hx : p.tables.exec = Jvm.exec) (hb : c.code = cc) {n : Int} (hdg : decode cc pc = .ok (.sipush n, 3)) (hv : (Int16.ofInt n).toInt32 = jI n) (k : W p l e R s m args below meth c H locs cells slots Q (F0 m (pc + 3) ls (.int (jI n) :: rest))) : W p l e R s m args below meth c H locs cells slots Q (F0 m pc ls rest) := lv_sipush hx hb hdg hv k
theorem w_lconst0 (hx : p.tables.exec = Jvm.exec) (hb : c.code = cc) (hdg : decode cc pc = .ok (.lconst 0, 1)) (k : W p l e R s m args below meth c H locs cells slots Q (F0 m (pc + 1) ls (.long (jL 0) :: rest))) : W p l e R s m args below meth c H locs cells slots Q (F0 m pc ls rest) := lv_lconst hx hb hdg (by decide) k
theorem w_lconst1 (hx : p.tables.exec = Jvm.exec) (hb : c.code = cc) (hdg : decode cc pc = .ok (.lconst 1, 1)) (k : W p l e R s m args below meth c H locs cells slots Q (F0 m (pc + 1) ls (.long (jL 1) :: rest))) : W p l e R s m args below meth c H locs cells slots Q (F0 m pc ls rest) := lv_lconst hx hb hdg (by decide) k
theorem w_istore_n (hx : p.tables.exec = Jvm.exec) (hb : c.code = cc) {k : Fin 4} {i nL : Nat} {x : Int32} {L L' : List (Nat × VT)} (hdg : decode cc pc = .ok (.istore_n k, 1)) (hi : (k : Nat) = i) (h : lv_has ls nL (lm L)) (hn : i < nL) (hl : (i, vI x) :: st1 i L = L')
    (kk : ∀ ls' : Array Slot, lv_has ls' nL (lm L') → W p l e R s m args below meth c H locs cells slots Q (F0 m (pc + 1) ls' rest)) : W p l e R s m args below meth c H locs cells slots Q (F0 m pc ls (.int x :: rest)) := by
  subst hl
  exact lv_istore_n hx hb hdg hi h hn (by rw [lm_st1]; rfl) kk
theorem w_istore (hx : p.tables.exec = Jvm.exec) (hb : c.code = cc) {i nL : Nat} {x : Int32} {L L' : List (Nat × VT)} (hdg : decode cc pc = .ok (.istore i, 2)) (h : lv_has ls nL (lm L)) (hn : i < nL) (hl : (i, vI x) :: st1 i L = L')
    (kk : ∀ ls' : Array Slot, lv_has ls' nL (lm L') → W p l e R s m args below meth c H locs cells slots Q (F0 m (pc + 2) ls' rest)) : W p l e R s m args below meth c H locs cells slots Q (F0 m pc ls (.int x :: rest)) := by
  subst hl
  exact lv_istore hx hb hdg h hn (by rw [lm_st1]; rfl) kk
theorem w_astore_n' (hx : p.tables.exec = Jvm.exec) (hb : c.code = cc) {k : Fin 4} {i nL a : Nat} {L L' : List (Nat × VT)} (hdg : decode cc pc = .ok (.astore_n k, 1)) (hi : (k : Nat) = i) (h : lv_has ls nL (lm L)) (hn : i < nL) (hl : (i, vR a) :: st1 i L = L')
    (kk : ∀ ls' : Array Slot, lv_has ls' nL (lm L') → W p l e R s m args below meth c H locs cells slots Q (F0 m (pc + 1) ls' rest)) : W p l e R s m args below meth c H locs cells slots Q (F0 m pc ls (vr a :: rest)) := by
  subst hl
  exact w_astore_n hx hb hdg hi h hn (by rw [lm_st1]; rfl) kk
theorem w_astore' (hx : p.tables.exec = Jvm.exec) (hb : c.code = cc) {i nL a : Nat} {L L' : List (Nat × VT)} (hdg : decode cc pc = .ok (.astore i, 2)) (h : lv_has ls nL (lm L)) (hn : i < nL) (hl : (i, vR a) :: st1 i L = L')
    (kk : ∀ ls' : Array Slot, lv_has ls' nL (lm L') → W p l e R s m args below meth c H locs cells slots Q (F0 m (pc + 2) ls' rest)) : W p l e R s m args below meth c H locs cells slots Q (F0 m pc ls (vr a :: rest)) := by
  subst hl
  exact w_astore hx hb hdg h hn (by rw [lm_st1]; rfl) kk
theorem w_lstore_n (hx : p.tables.exec = Jvm.exec) (hb : c.code = cc) {k : Fin 4} {i nL : Nat} {x : Int64} {L L' : List (Nat × VT)} (hdg : decode cc pc = .ok (.lstore_n k, 1)) (hi : (k : Nat) = i) (h : lv_has ls nL (lm L)) (hn : i + 1 < nL) (hl : (i, vJ x) :: st2 i L = L')
    (kk : ∀ ls' : Array Slot, lv_has ls' nL (lm L') → W p l e R s m args below meth c H locs cells slots Q (F0 m (pc + 1) ls' rest)) : W p l e R s m args below meth c H locs cells slots Q (F0 m pc ls (.long x :: rest)) := by
  subst hl
  exact lv_lstore_n hx hb hdg hi h hn (by rw [lm_st2]; rfl) kk
theorem w_lstore (hx : p.tables.exec = Jvm.exec) (hb : c.code = cc) {i nL : Nat} {x : Int64} {L L' : List (Nat × VT)} (hdg : decode cc pc = .ok (.lstore i, 2)) (h : lv_has ls nL (lm L)) (hn : i + 1 < nL) (hl : (i, vJ x) :: st2 i L = L')
    (kk : ∀ ls' : Array Slot, lv_has ls' nL (lm L') → W p l e R s m args below meth c H locs cells slots Q (F0 m (pc + 2) ls' rest)) : W p l e R s m args below meth c H locs cells slots Q (F0 m pc ls (.long x :: rest)) := by
  subst hl
  exact lv_lstore hx hb hdg h hn (by rw [lm_st2]; rfl) kk
theorem w_iinc (hx : p.tables.exec = Jvm.exec) (hb : c.code = cc) {i nL k : Nat} {n : Int} {x : Int32} {L L' : List (Nat × VT)} (hdg : decode cc pc = .ok (.iinc i n, 3)) (h : lv_has ls nL (lm L)) (hk : L[k]? = some (i, vI x)) (hn : i < nL) (hl : (i, vI (x + jI n)) :: st1 i L = L')
    (kk : ∀ ls' : Array Slot, lv_has ls' nL (lm L') → W p l e R s m args below meth c H locs cells slots Q (F0 m (pc + 3) ls' rest)) : W p l e R s m args below meth c H locs cells slots Q (F0 m pc ls rest) := by
  subst hl
  exact lv_iinc hx hb hdg h (k := k) (by unfold lm; rw [List.getElem?_map, hk]; rfl) rfl hn (by rw [lm_st1]; rfl) kk
theorem w_irem (hx : p.tables.exec = Jvm.exec) (hb : c.code = cc) {x y : Int32} (hdg : decode cc pc = .ok (.irem, 1)) (hne : ¬ y = 0) (k : W p l e R s m args below meth c H locs cells slots Q (F0 m (pc + 1) ls (.int (jrem x y) :: rest))) : W p l e R s m args below meth c H locs cells slots Q (F0 m pc ls (.int y :: .int x :: rest)) := lv_irem hx hb hdg hne k
theorem w_lrem (hx : p.tables.exec = Jvm.exec) (hb : c.code = cc) {x y : Int64} (hdg : decode cc pc = .ok (.lrem, 1)) (hne : ¬ y = 0) (k : W p l e R s m args below meth c H locs cells slots Q (F0 m (pc + 1) ls (.long (jlrem x y) :: rest))) : W p l e R s m args below meth c H locs cells slots Q (F0 m pc ls (.long y :: .long x :: rest)) := lv_lrem hx hb hdg hne k
theorem w_ishl (hx : p.tables.exec = Jvm.exec) (hb : c.code = cc) {x y : Int32} (hdg : decode cc pc = .ok (.ishl, 1)) (k : W p l e R s m args below meth c H locs cells slots Q (F0 m (pc + 1) ls (.int (jshl x y) :: rest))) : W p l e R s m args below meth c H locs cells slots Q (F0 m pc ls (.int y :: .int x :: rest)) := lv_ishl hx hb hdg k
theorem w_ishr (hx : p.tables.exec = Jvm.exec) (hb : c.code = cc) {x y : Int32} (hdg : decode cc pc = .ok (.ishr, 1)) (k : W p l e R s m args below meth c H locs cells slots Q (F0 m (pc + 1) ls (.int (jshr x y) :: rest))) : W p l e R s m args below meth c H locs cells slots Q (F0 m pc ls (.int y :: .int x :: rest)) := lv_ishr hx hb hdg k
theorem lv_v {nL i k : Nat} {v : Value} {L : List (Nat × VT)} (h : lv_has ls nL (lm L)) {w : VT} (hk : L[k]? = some (i, w)) (hv : tv w = v) : ls[i]? = some (.val v) := by
  subst hv
  exact lv_at h k (by unfold lm; rw [List.getElem?_map, hk]; rfl)
theorem lv_p {nL : Nat} {L L' : List (Nat × VT)} (h : lv_has ls nL (lm L)) (ks : List Nat) (hk : ks.map (fun k => L[k]?) = L'.map some) : lv_has ls nL (lm L') := by
  refine ⟨h.1, h.2.1, fun q hq => ?_⟩
  obtain ⟨q0, h0, rfl⟩ := List.mem_map.mp hq
  have h1 : some q0 ∈ L'.map some := List.mem_map.mpr ⟨q0, h0, rfl⟩
  rw [← hk] at h1
  obtain ⟨k, -, h2⟩ := List.mem_map.mp h1
  exact h.2.2 _ (List.mem_map.mpr ⟨q0, List.mem_of_getElem? h2, rfl⟩)
end ROWS3
theorem lg_len (av : List VT) : (lg_sl (av.map tv)).length = (av.map tcat).sum := by
  induction av with
  | nil => rfl
  | cons v vs ih =>
    have h1 : lg_sl ((v :: vs).map tv) = (if (tv v).category = 2 then [.val (tv v), .second] else [.val (tv v)]) ++ lg_sl (vs.map tv) := rfl
    rw [h1, List.length_append, ih, List.map_cons, List.sum_cons, tv_cat]
    rcases v with x | x | a <;> rfl
theorem D_in {G : Wd} {l : Launch} {d : Nat} {mi : MI} {av : List VT} {h : VH} {post : Option Value → VH → Prop} {xp : Nat → VH → Prop} (hd : 9 ≤ d) (hpl : plainName mi.1.cls = true) (hlen : Nat.ble (av.map tcat).sum mi.2.2.1 = true)
    (body : ∀ V XV, Ctx G l (d - 1) mi post xp V XV → V 0 (lvt 0 av) [] h) : D G l d mi av h post xp := D_intro hd hpl (by rw [lg_len]; exact Nat.le_of_ble_eq_true hlen) body
/-- a choice that doesn't touch what follows -/
theorem or_k {A B K P : Prop} (h : A ∨ B) (ha : A → K → P) (hb : B → K → P) (k : K) : P := h.elim (fun a => ha a k) (fun b => hb b k)
/-- an exception that no handler takes leaves the method -/
theorem XV_out {G : Wd} {l : Launch} {d : Nat} {mi : MI} {post : Option Value → VH → Prop} {xp : Nat → VH → Prop} {V : Nat → List (Nat × VT) → List Value → VH → Prop} {XV : Nat → List (Nat × VT) → Nat → VH → Prop} (C : Ctx G l d mi post xp V XV) {pc a : Nat} {L : List (Nat × VT)} {h : VH} (ht : (miT mi).all (fun x => !(covers x pc)) = true) (hp : xp a h) : XV pc L a h := by
  obtain ⟨p, e, R, s, m, args, below, meth, c, Q, ⟨hx, hb, hr, hlk, hml, hown, hk, hRr, htb, hnm, hsB, htr, hQ⟩, hV, hX⟩ := C
  rw [hX]
  intro H locs ls rest q0 hq h1 h2 hR hL hl
  subst hq
  subst hQ
  refine x_out hown hlk hR hL (fun x hx => ?_) ⟨h1, h2⟩ hp
  rw [htb] at hx
  have h9 := List.all_eq_true.mp ht x hx
  cases h8 : covers x pc with
  | false => rfl
  | true => rw [h8] at h9; cases h9
theorem lc_out {L : List ExceptionTableEntry} (x : ExceptionTableEntry) (pc : Nat) (h : x ∈ L) (ha : L.all (fun x => !(covers x pc)) = true) : covers x pc = false := by
  have h9 := List.all_eq_true.mp ha x h
  cases h8 : covers x pc with
  | false => rfl
  | true => rw [h8] at h9; cases h9
theorem C_wf {G : Wd} {l : Launch} {d : Nat} {mi : MI} {post : Option Value → VH → Prop} {xp : Nat → VH → Prop} {V : Nat → List (Nat × VT) → List Value → VH → Prop} {XV : Nat → List (Nat × VT) → Nat → VH → Prop} (C : Ctx G l d mi post xp V XV) {pc : Nat} {L : List (Nat × VT)} {st : List Value} {h : VH} (hV : WF h → V pc L st h) : V pc L st h := by
  obtain ⟨p, e, R, s, m, args, below, meth, c, Q, -, hV9, hX9⟩ := C
  rw [hV9]
  intro H locs ls hR hL hl
  exact (hV9 _ _ _ _).mp (hV hR.wf) H locs ls hR hL hl
/-- an array -/
def isArr (h : VH) (a : Nat) : Prop := 200 ≤ kd h a ∧ kd h a < 400 ∧ kd h a % 100 < 9
/-- an array of references -/
def isArrR (h : VH) (a : Nat) : Prop := 200 ≤ kd h a ∧ kd h a < 400 ∧ kd h a % 100 < 9 ∧ 4 ≤ kd h a % 100
theorem isArr.use {h : VH} {a : Nat} (q : isArr h a) : ∃ t ty, kd h a = 200 + t ∧ t < 200 ∧ TYS[t % 100]? = some ty := by
  obtain ⟨q1, q2, q3⟩ := q
  have e : (200 + (kd h a - 200)) % 100 = (kd h a - 200) % 100 := by omega
  have h9 : (kd h a - 200) % 100 < 9 := by omega
  generalize (kd h a - 200) % 100 = z at h9
  have key : ∀ z, z < 9 → ∃ ty, TYS[z]? = some ty := by
    intro z hz
    exact ⟨_, List.getElem?_eq_getElem (show z < TYS.length from hz)⟩
  obtain ⟨ty, hty⟩ := key ((kd h a - 200) % 100) (by omega)
  exact ⟨kd h a - 200, ty, by omega, by omega, hty⟩
theorem isArrR.use {h : VH} {a : Nat} (q : isArrR h a) : ∃ t ty, kd h a = 200 + t ∧ t < 200 ∧ TYS[t % 100]? = some ty ∧ refK ty = true := by
  obtain ⟨q1, q2, q3, q4⟩ := q
  have key : ∀ z, z < 9 → 4 ≤ z → ∃ ty, TYS[z]? = some ty ∧ refK ty = true := by
    intro z h1 h2
    match z, h1, h2 with
    | 4, _, _ => exact ⟨_, rfl, rfl⟩
    | 5, _, _ => exact ⟨_, rfl, rfl⟩
    | 6, _, _ => exact ⟨_, rfl, rfl⟩
    | 7, _, _ => exact ⟨_, rfl, rfl⟩
    | 8, _, _ => exact ⟨_, rfl, rfl⟩
  obtain ⟨ty, hty, hr⟩ := key ((kd h a - 200) % 100) (by omega) (by omega)
  exact ⟨kd h a - 200, ty, by omega, by omega, hty, hr⟩
section ROWS4
variable {p : Program} {l : Launch} {e : Env} {R : Room} {s : State} {m : MethodId} {args : Array Value} {below : List Frame} {meth : Method} {c : Code} {H : Heap} {locs : List Loc} {Q : State → Prop} {cells slots : Nat} {G : Wd} {h : VH}
variable {cc : ByteArray} {pc : Nat} {ls : Array Slot} {rest : List Value} {own : String}
theorem w_oinit (hx : p.tables.exec = Jvm.exec) (hb : c.code = cc) (hown : s.vm.findClass own = some m.cls) (hk : KN G s) {a index d : Nat} (ha : a ≠ 0) (hRr : d + 1 ≤ R.frames ∧ 96 * (d + 1) ≤ R.locals ∧ wC G ≤ R.cells + s.heap.size ∧ wS G ≤ R.slots + tsl s.heap ∧ 8 ≤ d)
    (q1 : Cond.methodLink own index Lib.objectInit ∈ lw_all) (q2 : Cond.instanceMethod Lib.objectInit ∈ lw_all) (q3 : Cond.code Lib.objectInit ⟨#[0xb1]⟩ 1 none ∈ lw_all) (hsz : ls.size = c.maxLocals) (hdg : decode cc pc = .ok (.invokespecial index, 3)) (hr : 2 * rest.length ≤ 80)
    (kk : W p l e R s m args below meth c H locs cells slots Q (F0 m (pc + 3) ls rest)) : W p l e R s m args below meth c H locs cells slots Q (F0 m pc ls (vr a :: rest)) := by
  obtain ⟨b, rfl⟩ : ∃ b, a = b + 1 := ⟨a - 1, by omega⟩
  have h9 := cat_sum rest hr
  exact W.objInit hx hb hown (hk.w q1 args) (hk.w q2 args) (hk.w q3 args) (g := F0 m pc ls (vr (b + 1) :: rest)) rfl hsz (a := b) (rest := rest) rfl hdg (by omega) (by show 2 * 0 + _ + 12 ≤ _; omega) kk
theorem lv_ldcw' (hx : p.tables.exec = Jvm.exec) (hb : c.code = cc) {index : Nat} {v : Int32} (hown : s.vm.findClass own = some m.cls) (hconst : (Cond.constant own index v).before args s = true) (hdg : decode cc pc = .ok (.ldc_w index, 3))
    (kk : W p l e R s m args below meth c H locs cells slots Q (F0 m (pc + 3) ls (.int v :: rest))) : W p l e R s m args below meth c H locs cells slots Q (F0 m pc ls rest) := by
  intro T hT X
  obtain ⟨t, a1, b1⟩ := kk T hT X
  exact ⟨t, va_ldcwI X hx hown hconst (g := F0 m pc ls rest) rfl (by rw [hb]; exact hdg) t a1, b1⟩
end ROWS4
theorem vr_isRef (a : Nat) : (vr a).isRef = true := by cases a <;> rfl
theorem ex_I {G : Wd} {s : State} (hk : KN G s) (args : Array Value) : ∀ w ∈ vx_at0 "HintTeam" 74 "java/lang/IndexOutOfBoundsException" ["java/lang/RuntimeException", "java/lang/Exception"], w.before args s = true ∧ vx_ot w = true := by
  have key : ∀ w ∈ Bundle.ownAtoms0 "HintTeam" 74 "java/lang/IndexOutOfBoundsException" ["java/lang/RuntimeException", "java/lang/Exception"], vx_no w = true → w.before args s = true ∧ vx_ot w = true := List.forall_mem_cons.mpr ⟨(fun _ => ⟨hk.w q157 args, rfl⟩), List.forall_mem_cons.mpr ⟨(fun _ => ⟨hk.w q381 args, rfl⟩), List.forall_mem_cons.mpr ⟨(fun _ => ⟨hk.w q390 args, rfl⟩), List.forall_mem_cons.mpr ⟨(fun _ => ⟨hk.w q397 args, rfl⟩), List.forall_mem_cons.mpr ⟨(fun _ => ⟨hk.w q400 args, rfl⟩), List.forall_mem_cons.mpr ⟨(fun _ => ⟨hk.w q402 args, rfl⟩), List.forall_mem_cons.mpr ⟨(fun _ => ⟨hk.w q382 args, rfl⟩), List.forall_mem_cons.mpr ⟨(fun _ => ⟨hk.w q383 args, rfl⟩), List.forall_mem_cons.mpr ⟨(fun _ => ⟨hk.w q211 args, rfl⟩), List.forall_mem_cons.mpr ⟨(fun _ => ⟨hk.w q212 args, rfl⟩), List.forall_mem_cons.mpr ⟨(fun _ => ⟨hk.w q384 args, rfl⟩), List.forall_mem_cons.mpr ⟨(fun _ => ⟨hk.w q389 args, rfl⟩), List.forall_mem_cons.mpr ⟨(fun _ => ⟨hk.w q398 args, rfl⟩), List.forall_mem_cons.mpr ⟨(fun _ => ⟨hk.w q639 args, rfl⟩), List.forall_mem_cons.mpr ⟨(fun _ => ⟨hk.w q371 args, rfl⟩), List.forall_mem_cons.mpr ⟨(fun _ => ⟨hk.w q640 args, rfl⟩), List.forall_mem_cons.mpr ⟨(fun _ => ⟨hk.w q373 args, rfl⟩), List.forall_mem_cons.mpr ⟨(fun _ => ⟨hk.w q641 args, rfl⟩), List.forall_mem_cons.mpr ⟨(fun _ => ⟨hk.w q375 args, rfl⟩), List.forall_mem_cons.mpr ⟨(fun _ => ⟨hk.w q385 args, rfl⟩), List.forall_mem_cons.mpr ⟨(fun h9 => absurd h9 (by decide +kernel)), List.forall_mem_cons.mpr ⟨(fun _ => ⟨hk.w q387 args, rfl⟩), List.forall_mem_cons.mpr ⟨(fun h9 => absurd h9 (by decide +kernel)), List.forall_mem_cons.mpr ⟨(fun _ => ⟨hk.w q377 args, rfl⟩), List.forall_mem_cons.mpr ⟨(fun _ => ⟨hk.w q2636 args, rfl⟩), List.forall_mem_cons.mpr ⟨(fun _ => ⟨hk.w q2637 args, rfl⟩), List.forall_mem_cons.mpr ⟨(fun _ => ⟨hk.w q2638 args, rfl⟩), List.forall_mem_cons.mpr ⟨(fun _ => ⟨hk.w q1554 args, rfl⟩), List.forall_mem_cons.mpr ⟨(fun _ => ⟨va_any rfl (hk.de q362), rfl⟩), List.forall_mem_cons.mpr ⟨(fun _ => ⟨hk.w q1554 args, rfl⟩), List.forall_mem_cons.mpr ⟨(fun _ => ⟨hk.w q1555 args, rfl⟩), List.forall_mem_cons.mpr ⟨(fun _ => ⟨hk.w q1556 args, rfl⟩), List.forall_mem_cons.mpr ⟨(fun _ => ⟨hk.w q1557 args, rfl⟩), List.forall_mem_cons.mpr ⟨(fun _ => ⟨va_any rfl (hk.de q364), rfl⟩), List.forall_mem_cons.mpr ⟨(fun _ => ⟨hk.w q1557 args, rfl⟩), List.forall_mem_cons.mpr ⟨(fun _ => ⟨hk.w q1558 args, rfl⟩), List.forall_mem_cons.mpr ⟨(fun _ => ⟨hk.w q1559 args, rfl⟩), List.forall_mem_cons.mpr ⟨(fun _ => ⟨hk.w q382 args, rfl⟩), List.forall_mem_cons.mpr ⟨(fun _ => ⟨va_any rfl (hk.de q366), rfl⟩), List.forall_mem_cons.mpr ⟨(fun _ => ⟨hk.w q2635 args, rfl⟩), List.forall_mem_cons.mpr ⟨(fun _ => ⟨hk.w q1328 args, rfl⟩), List.forall_mem_cons.mpr ⟨(fun _ => ⟨va_any rfl (hk.ca q1329), rfl⟩), List.forall_mem_cons.mpr ⟨(fun _ => ⟨hk.w q1330 args, rfl⟩), List.forall_mem_cons.mpr ⟨(fun _ => ⟨hk.w q394 args, rfl⟩), List.forall_mem_cons.mpr ⟨(fun _ => ⟨hk.w q1331 args, rfl⟩), List.forall_mem_cons.mpr ⟨(fun _ => ⟨hk.w q1332 args, rfl⟩), List.forall_mem_cons.mpr ⟨(fun _ => ⟨hk.w q1333 args, rfl⟩), List.forall_mem_cons.mpr ⟨(fun _ => ⟨hk.w q1334 args, rfl⟩), List.forall_mem_cons.mpr ⟨(fun h9 => absurd h9 (by decide +kernel)), List.forall_mem_cons.mpr ⟨(fun h9 => absurd h9 (by decide +kernel)), List.forall_mem_cons.mpr ⟨(fun _ => ⟨hk.w q637 args, rfl⟩), List.forall_mem_cons.mpr ⟨(fun _ => ⟨hk.w q379 args, rfl⟩), List.forall_mem_cons.mpr ⟨(fun _ => ⟨hk.w q1335 args, rfl⟩), (fun _ h9 => absurd h9 List.not_mem_nil)⟩⟩⟩⟩⟩⟩⟩⟩⟩⟩⟩⟩⟩⟩⟩⟩⟩⟩⟩⟩⟩⟩⟩⟩⟩⟩⟩⟩⟩⟩⟩⟩⟩⟩⟩⟩⟩⟩⟩⟩⟩⟩⟩⟩⟩⟩⟩⟩⟩⟩⟩⟩⟩
  intro w hw
  obtain ⟨h1, h2⟩ := List.mem_filter.mp hw
  exact key w h1 h2
theorem ex_A {G : Wd} {s : State} (hk : KN G s) (args : Array Value) : ∀ w ∈ vx_at0 "HintTeam" 77 "java/lang/IllegalArgumentException" ["java/lang/RuntimeException", "java/lang/Exception"], w.before args s = true ∧ vx_ot w = true := by
  have key : ∀ w ∈ Bundle.ownAtoms0 "HintTeam" 77 "java/lang/IllegalArgumentException" ["java/lang/RuntimeException", "java/lang/Exception"], vx_no w = true → w.before args s = true ∧ vx_ot w = true := List.forall_mem_cons.mpr ⟨(fun _ => ⟨hk.w q157 args, rfl⟩), List.forall_mem_cons.mpr ⟨(fun _ => ⟨hk.w q381 args, rfl⟩), List.forall_mem_cons.mpr ⟨(fun _ => ⟨hk.w q390 args, rfl⟩), List.forall_mem_cons.mpr ⟨(fun _ => ⟨hk.w q397 args, rfl⟩), List.forall_mem_cons.mpr ⟨(fun _ => ⟨hk.w q400 args, rfl⟩), List.forall_mem_cons.mpr ⟨(fun _ => ⟨hk.w q402 args, rfl⟩), List.forall_mem_cons.mpr ⟨(fun _ => ⟨hk.w q382 args, rfl⟩), List.forall_mem_cons.mpr ⟨(fun _ => ⟨hk.w q383 args, rfl⟩), List.forall_mem_cons.mpr ⟨(fun _ => ⟨hk.w q211 args, rfl⟩), List.forall_mem_cons.mpr ⟨(fun _ => ⟨hk.w q212 args, rfl⟩), List.forall_mem_cons.mpr ⟨(fun _ => ⟨hk.w q384 args, rfl⟩), List.forall_mem_cons.mpr ⟨(fun _ => ⟨hk.w q389 args, rfl⟩), List.forall_mem_cons.mpr ⟨(fun _ => ⟨hk.w q398 args, rfl⟩), List.forall_mem_cons.mpr ⟨(fun _ => ⟨hk.w q639 args, rfl⟩), List.forall_mem_cons.mpr ⟨(fun _ => ⟨hk.w q371 args, rfl⟩), List.forall_mem_cons.mpr ⟨(fun _ => ⟨hk.w q640 args, rfl⟩), List.forall_mem_cons.mpr ⟨(fun _ => ⟨hk.w q373 args, rfl⟩), List.forall_mem_cons.mpr ⟨(fun _ => ⟨hk.w q641 args, rfl⟩), List.forall_mem_cons.mpr ⟨(fun _ => ⟨hk.w q375 args, rfl⟩), List.forall_mem_cons.mpr ⟨(fun _ => ⟨hk.w q385 args, rfl⟩), List.forall_mem_cons.mpr ⟨(fun h9 => absurd h9 (by decide +kernel)), List.forall_mem_cons.mpr ⟨(fun _ => ⟨hk.w q387 args, rfl⟩), List.forall_mem_cons.mpr ⟨(fun h9 => absurd h9 (by decide +kernel)), List.forall_mem_cons.mpr ⟨(fun _ => ⟨hk.w q377 args, rfl⟩), List.forall_mem_cons.mpr ⟨(fun _ => ⟨hk.w q2605 args, rfl⟩), List.forall_mem_cons.mpr ⟨(fun _ => ⟨hk.w q2606 args, rfl⟩), List.forall_mem_cons.mpr ⟨(fun _ => ⟨hk.w q2607 args, rfl⟩), List.forall_mem_cons.mpr ⟨(fun _ => ⟨hk.w q1554 args, rfl⟩), List.forall_mem_cons.mpr ⟨(fun _ => ⟨va_any rfl (hk.de q362), rfl⟩), List.forall_mem_cons.mpr ⟨(fun _ => ⟨hk.w q1554 args, rfl⟩), List.forall_mem_cons.mpr ⟨(fun _ => ⟨hk.w q1555 args, rfl⟩), List.forall_mem_cons.mpr ⟨(fun _ => ⟨hk.w q1556 args, rfl⟩), List.forall_mem_cons.mpr ⟨(fun _ => ⟨hk.w q1557 args, rfl⟩), List.forall_mem_cons.mpr ⟨(fun _ => ⟨va_any rfl (hk.de q364), rfl⟩), List.forall_mem_cons.mpr ⟨(fun _ => ⟨hk.w q1557 args, rfl⟩), List.forall_mem_cons.mpr ⟨(fun _ => ⟨hk.w q1558 args, rfl⟩), List.forall_mem_cons.mpr ⟨(fun _ => ⟨hk.w q1559 args, rfl⟩), List.forall_mem_cons.mpr ⟨(fun _ => ⟨hk.w q382 args, rfl⟩), List.forall_mem_cons.mpr ⟨(fun _ => ⟨va_any rfl (hk.de q366), rfl⟩), List.forall_mem_cons.mpr ⟨(fun _ => ⟨hk.w q2604 args, rfl⟩), List.forall_mem_cons.mpr ⟨(fun _ => ⟨hk.w q360 args, rfl⟩), List.forall_mem_cons.mpr ⟨(fun _ => ⟨va_any rfl (hk.ca q361), rfl⟩), List.forall_mem_cons.mpr ⟨(fun _ => ⟨hk.w q368 args, rfl⟩), List.forall_mem_cons.mpr ⟨(fun _ => ⟨hk.w q369 args, rfl⟩), List.forall_mem_cons.mpr ⟨(fun _ => ⟨hk.w q370 args, rfl⟩), List.forall_mem_cons.mpr ⟨(fun _ => ⟨hk.w q372 args, rfl⟩), List.forall_mem_cons.mpr ⟨(fun _ => ⟨hk.w q374 args, rfl⟩), List.forall_mem_cons.mpr ⟨(fun _ => ⟨hk.w q376 args, rfl⟩), List.forall_mem_cons.mpr ⟨(fun h9 => absurd h9 (by decide +kernel)), List.forall_mem_cons.mpr ⟨(fun h9 => absurd h9 (by decide +kernel)), List.forall_mem_cons.mpr ⟨(fun _ => ⟨hk.w q637 args, rfl⟩), List.forall_mem_cons.mpr ⟨(fun _ => ⟨hk.w q379 args, rfl⟩), List.forall_mem_cons.mpr ⟨(fun _ => ⟨hk.w q378 args, rfl⟩), (fun _ h9 => absurd h9 List.not_mem_nil)⟩⟩⟩⟩⟩⟩⟩⟩⟩⟩⟩⟩⟩⟩⟩⟩⟩⟩⟩⟩⟩⟩⟩⟩⟩⟩⟩⟩⟩⟩⟩⟩⟩⟩⟩⟩⟩⟩⟩⟩⟩⟩⟩⟩⟩⟩⟩⟩⟩⟩⟩⟩⟩
  intro w hw
  obtain ⟨h1, h2⟩ := List.mem_filter.mp hw
  exact key w h1 h2
theorem KN.zU {G : Wd} {s : State} {h : VH} {H : Heap} (hk : KN G s) (hR : Rp G h H) : vx_Zq Bundle.tN "UNASSIGNED_STACK" Bundle.steD (fun q => wB G ≤ q) s H := by
  obtain ⟨A0, h0⟩ := hk.1.1
  have h1 := hk.1.2.2.2.1 ("java/lang/Throwable", "UNASSIGNED_STACK", "[Ljava/lang/StackTraceElement;", vr (wA G 4)) (by simp [STL])
  have h2 : vx_Zq Bundle.tN "UNASSIGNED_STACK" Bundle.steD (fun q => wB G ≤ q) (wF G) (wF G).heap := vx_Zqof (args := A0) (h0 _ q386) (h0 _ (lw_all_tbl q157)) (vx_isRef h1 (vr_isRef _)) (fun a ha => Nat.not_le.mpr ha)
  refine (vx_Zq.moved hk.2.alike h2).kept (fun a _ ha => ?_)
  exact hR.2.2.2.2.2.1 a (Nat.not_le.mp ha)
theorem KN.zN {G : Wd} {s : State} {h : VH} {H : Heap} (hk : KN G s) (hR : Rp G h H) : vx_Zq Bundle.tN "SUPPRESSED_SENTINEL" Bundle.listD (fun q => wB G ≤ q) s H := by
  obtain ⟨A0, h0⟩ := hk.1.1
  have h1 := hk.1.2.2.2.1 ("java/lang/Throwable", "SUPPRESSED_SENTINEL", "Ljava/util/List;", vr (wA G 5)) (by simp [STL])
  have h2 : vx_Zq Bundle.tN "SUPPRESSED_SENTINEL" Bundle.listD (fun q => wB G ≤ q) (wF G) (wF G).heap := vx_Zqof (args := A0) (h0 _ q388) (h0 _ (lw_all_tbl q157)) (vx_isRef h1 (vr_isRef _)) (fun a ha => Nat.not_le.mpr ha)
  refine (vx_Zq.moved hk.2.alike h2).kept (fun a _ ha => ?_)
  exact hR.2.2.2.2.2.1 a (Nat.not_le.mp ha)
section ROWS5
variable {p : Program} {l : Launch} {e : Env} {R : Room} {s : State} {m : MethodId} {args : Array Value} {below : List Frame} {meth : Method} {c : Code} {H : Heap} {locs : List Loc} {Q : State → Prop} {G : Wd} {h : VH}
variable {cc : ByteArray} {pc : Nat} {ls : Array Slot} {rest : List Value} {own : String}
/-- new E(); dup; E.<init>() : the object is on the stack -/
theorem w_make0 (hx : p.tables.exec = Jvm.exec) (hb : c.code = cc) (hown : s.vm.findClass own = some m.cls) (hk : KN G s) (hR : Rp G h H) (hL : ∀ z ∈ locs, wB G ≤ z.base) (htr : l.stackTraces = false) {d : Nat} (hRr : d + 1 ≤ R.frames ∧ 96 * (d + 1) ≤ R.locals ∧ wC G ≤ R.cells + s.heap.size ∧ wS G ≤ R.slots + tsl s.heap ∧ 8 ≤ d) (hsB : wB G ≤ s.heap.size) {cls : String} {names : List String} {ik ic i : Nat} {T0 : u_T} {F : Nat → FieldType × Nat}
    (hcls : Bundle.fit cls = true) (hnames : ∀ n ∈ names, Bundle.fit n = true) (hlen : names.length ≤ 4) (hkw : Cond.classLink own ik cls ∈ lw_all) (hini : Cond.initialized cls ∈ lw_all) (hat : ∀ w ∈ vx_at0 own ic cls names, w.before args s = true ∧ vx_ot w = true)
    (hzO : szO i = 0) (hci : CL[i]? = some (cls, T0, 0)) (hcf : CFL[i]? = some F) (hi : i < 100) (hsize : ls.size = c.maxLocals) (hrest : (rest.map fun v => v.category).sum ≤ 32) (hmC : h.2.1 ≤ wC G) (hmS : h.2.2 + 6 ≤ wS G)
    (d0 : decode cc pc = .ok (.new ik, 3)) (d3 : decode cc (pc + 3) = .ok (.dup, 1)) (d4 : decode cc (pc + 4) = .ok (.invokespecial ic, 3))
    (kk : ∀ (N : Nat) (H1 : Heap), N ≤ 6 → Rp G (al h (i + 1) 0 N) H1 → Wn p l e R s m args below meth c H1 locs Q (F0 m (pc + 7) ls (vr h.2.1 :: rest))) :
    Wn p l e R s m args below meth c H locs Q (F0 m pc ls rest) := by
  have r1 := hR.1
  have r2 := hR.2.1
  refine W.sz fun hz1 hz2 => ?_
  intro T hT X
  subst hT
  have htr : e.platform.stackTraces = false := (show e.platform.stackTraces = l.stackTraces by rw [X.admits.platform]).trans htr
  have Y := vx_rebase X (R' := { frames := R.frames, locals := R.locals, cells := 1, slots := 6 }) (Nat.le_refl _) (Nat.le_refl _) (by show _ + 1 ≤ _; omega) (by show _ + 6 ≤ _; omega)
  obtain ⟨s', hA'⟩ : ∃ z, z = (T.setVm s.vm).setFrames (.invoking m args :: below) := ⟨_, rfl⟩
  rw [← hA'] at Y
  have hvm : s'.vm = s.vm := by rw [hA']; rfl
  have hhp : s'.heap = T.heap := by rw [hA']; rfl
  have hW0 : s.WarmedH s'.vm := by rw [hvm]; exact State.WarmedH.refl s
  have hat' : ∀ w ∈ vx_at0 own ic cls names, w.before args s' = true := fun w hw => vx_ot_at hW0 hvm.symm (hat w hw).2 (hat w hw).1
  have hk' : (Cond.classLink own ik cls).before args s' = true := (hk.warm hW0).w hkw args
  have hini' : (Cond.initialized cls).before args s' = true := (hk.warm hW0).w hini args
  have hU' : vx_Zq Bundle.tN "UNASSIGNED_STACK" Bundle.steD (fun q => wB G ≤ q) s' s'.heap := by rw [hhp]; exact (hk.warm hW0).zU hR
  have hN' : vx_Zq Bundle.tN "SUPPRESSED_SENTINEL" Bundle.listD (fun q => wB G ≤ q) s' s'.heap := by rw [hhp]; exact (hk.warm hW0).zN hR
  have h9 : ∀ w ∈ Bundle.ownAtoms0 own ic cls names, w.before args s' = true := vx_own hat' (vx_isRefq hU'.1) (vx_isRefq hN'.1) hU'.2.word hN'.2.word
  have hown' : s'.vm.findClass own = some m.cls := by rw [hvm]; exact hown
  have hins : (Cond.instantiable cls 6).before args s' = true := h9 _ (by simp [Bundle.ownAtoms0])
  obtain ⟨vm₁, cX, kX, hfX, hkX, -, -, X₁, st1⟩ := Y.newCold hx (own := own) (C := cls) (index := ik) (n := 6) hown' hk' hins hini'
    (g := F0 m pc ls rest) rfl (by rw [hb]; exact d0) (Nat.le_refl _) (Nat.le_refl _)
  generalize hT1 : (T.setVm vm₁).pushCell { cls := cX, slots := kX.instanceTypes.map defaultValue, vm := .none } = T1 at X₁ st1
  have hcat : (Value.ref T.heap.size).category = 1 := rfl
  have hcellA : T1.heap[T.heap.size]? = some (freshCell cX kX) := by rw [← hT1]; exact State.heap_pushCell_size _ _
  have d3' : decode c.code (pc + 3) = .ok (.dup, 1) := by rw [hb]; exact d3
  obtain ⟨V, ce, L, Z, hL9, hlt, hcl9, hvm9, st⟩ := vx_ctorMade0 X₁ hx htr (own := own) (cls := cls) (names := names) (ic := ic) hown' hcls hnames h9 (fun x hx => nomatch hx) hfX hkX hcellA (by rw [hhp]; exact Nat.le_refl _)
    (g := { method := m, pc := pc + 4, locals := ls, stack := .ref T.heap.size :: .ref T.heap.size :: rest, locked := none }) rfl hsize (rest := rest) rfl
    (by rw [hb]; exact d4) (by show _ < R.frames; omega) (by show _ ≤ R.locals; simp only [List.map_cons, List.sum_cons, hcat]; show 2 * 0 + _ + _ ≤ _; omega)
  have Z0 := Stand.forget (locs := []) Z (fun y hy => by rw [hL9 y hy, hhp]; exact Nat.le_refl _)
  obtain ⟨f1, f2⟩ := vx_frame Z0.same
  obtain ⟨z1, z2⟩ := stand_sz Z0
  have Z1 := stand_nar Z0
  rw [hhp] at f1 f2 z1 z2
  have hcid : ce.cls = (wD G).1 i := by
    rw [hcl9]
    have h1 := (hk.k.1 i _ hci).2.1
    rw [hvm] at hfX
    exact Option.some.inj (hfX.symm.trans h1)
  have hh : (V.setCell T.heap.size ce).heap[T.heap.size]? = some ce := heapAt_setCell_self (s := V) ce hlt
  have hlt2 := (Array.getElem?_eq_some_iff.mp hh).1
  have hup : (V.setCell T.heap.size ce).heap.size ≤ T.heap.size + 1 := by
    have h1 : (V.setCell T.heap.size ce).heap.size ≤ s'.heap.size + (0 + 1) := Z0.same.2.2.1
    rw [hhp] at h1
    omega
  have hus : tsl (V.setCell T.heap.size ce).heap ≤ tsl T.heap + 6 := by
    have h1 := Z0.book
    have h2 : s'.slotsTrue = true := by
      have h := Z0.room
      simp only [State.hasRoom, Bool.and_eq_true] at h
      exact h.2
    have a1 : (V.setCell T.heap.size ce).slotsUsed = tsl (V.setCell T.heap.size ce).heap := by simpa [State.slotsTrue, tsl] using h1
    have a2 : s'.slotsUsed = tsl s'.heap := by simpa [State.slotsTrue, tsl] using h2
    rw [hhp] at a2
    have a3 : (V.setCell T.heap.size ce).slotsUsed = s'.slotsUsed + _ := Z0.same.2.2.2.1
    have a4 := Z0.same.2.2.2.2.1
    rw [← a1, a3, ← a2]
    exact Nat.add_le_add_left (Nat.le_trans a4 (by omega)) _
  have hsz9 : (V.setCell T.heap.size ce).heap.size = T.heap.size + 1 := by omega
  have hts9 := tsl_new hsz9 hh (fun q hq => f2 q hq (fun z hz => nomatch hz))
  subst hA'
  have X5 := vx_back9 X Y Z0
  have hR9 : Rp G (al h (i + 1) 0 ce.slots.size) (V.setCell T.heap.size ce).heap := hR.al hsz9 hts9 (fun q hq => f2 q hq (fun z hz => nomatch hz)) hmC (by omega) (fun i' hi' _ => by
      have : i' = i := by omega
      subst this
      exact ⟨_, F, hci, hcf, ⟨ce, hh, hcid, hvm9, fun k hk => absurd hk (Nat.not_lt_zero k)⟩, Or.inl hzO⟩) (fun t ht _ => by omega)
  have hv : vr h.2.1 = .ref T.heap.size := by rw [← r1]; rfl
  have kk9 := kk ce.slots.size _ (by omega) hR9
  rw [hv] at kk9
  obtain ⟨t, a1, b1⟩ := W.nar kk9 _ rfl X5
  refine ⟨t, st1 _ ?_, b1⟩
  show Steps p.tables e below (T1.setTop { method := m, pc := pc + 3, locals := ls, stack := .ref T.heap.size :: rest, locked := none }) _
  jvm_step X₁.here [X₁.here.top, hx, d3', Value.category]
  exact st _ a1
end ROWS5
section ROWS6
variable {p : Program} {l : Launch} {e : Env} {R : Room} {s : State} {m : MethodId} {args : Array Value} {below : List Frame} {meth : Method} {c : Code} {H : Heap} {locs : List Loc} {Q : State → Prop} {G : Wd} {h : VH}
variable {cc : ByteArray} {pc : Nat} {ls : Array Slot} {rest : List Value} {own : String}
theorem hset_id (h : VH) (a : Nat) : hset h a (h.1 a) = h := by
  obtain ⟨f, z, n⟩ := h
  show ((fun x => if x = a then f a else f x), z, n) = (f, z, n)
  congr 1
  funext x
  by_cases e : x = a
  · subst e; rw [if_pos rfl]
  · rw [if_neg e]
/-- a final field that the tables of the layout leave out, of the same name and value as one that they hold -/
theorem w_putMove (hx : p.tables.exec = Jvm.exec) (hb : c.code = cc) (hown : s.vm.findClass own = some m.cls) (hk : KN G s) (hR : Rp G h H) (hL : ∀ z ∈ locs, wB G ≤ z.base) {i a N index : Nat} {C fn ds : String} {ty : FieldType} {T : u_T} {F : Nat → FieldType × Nat} {v : Value} (hc : CLOK i C T N F) (hkd : (h.1 a).1 = i + 1) (hi : i < 27)
    (hlink : Cond.fieldLink own index own fn ds ∈ lw_all) (hlay : Cond.laysFinal C own fn ds ∈ lw_all) {n : Nat} (hinst : Cond.instantiable C n ∈ lw_all) (hzn : n ≤ szO i) (hzp : szO i ≠ 0) (hin2 : meth.name = "<init>") (hty : parseFieldDescriptor ds = some ty) (hn : narrow ty v = v ∧ fits ty v = true)
    (hv : ∀ k, k < N → (T k).2.1 = fn → fv (F k).1 (F k).2 (h.1 a) = v) (hdg : decode cc pc = .ok (.putfield index, 3))
    (kk : ∀ (H1 : Heap) (locs1 : List Loc), Rp G h H1 → (∀ z ∈ locs1, wB G ≤ z.base) → Wn p l e R s m args below meth c H1 locs1 Q (F0 m (pc + 3) ls rest)) : Wn p l e R s m args below meth c H locs Q (F0 m pc ls (v :: vr a :: rest)) := by
  obtain ⟨b, rfl, ho, hbw⟩ := hR.obj hkd (by omega)
  obtain ⟨cell, q1, q2, q3, q4⟩ := objAt_of hc ho
  obtain ⟨hS, hfc, kC, hkC, hkind⟩ := hk.k.1 i _ hc.1
  have hlay := hk.w hlay args
  obtain ⟨cA, kA, c', kf, fi, f, g1, g2, hf', hst, -, -, hown2, -⟩ := Cond.laysFinal_spec hlay
  have hst' := (u_facts hfc hkC (Or.inr hlay) hf')
  have hcf : m.cls = c' := Option.some.inj (hown.symm.trans hown2)
  have h6 := u_fits hfc hkC hkind (Or.inr hlay) hf' hty hn.1 hn.2
  have hsz : f.slot < cell.slots.size := by
    have h7 := hst'.2.2
    have h8 := (Array.getElem?_eq_some_iff.mp h7).1
    obtain ⟨c0, kC', g1, g2, -, -, -, g4⟩ := Cond.instantiable_spec (hk.w hinst args)
    cases g1.symm.trans hfc
    cases g2.symm.trans hkC
    rcases objAt_sz ho with h9 | ⟨cell', e1, e2⟩
    · exact absurd h9 hzp
    · cases q1.symm.trans e1
      omega
  refine W.putFinK hx hb hown (hk.w hlink args) hf' hst'.1 hcf hin2 (by rw [q2]; exact h6) q1 q3 hsz rfl rfl hdg fun H' e1 e2 e3 => ?_
  have hR9 : Rp G (hset h (b + 1) (h.1 (b + 1))) H' := by
    refine hR.set rfl e2 (tsl_upd e2 q1 e1 (by simp [Cell.setSlot]) e3) e3 (hbw hi) (Array.getElem?_eq_some_iff.mp q1).1 (fun i' hi' _ => ?_) (fun t ht _ => by omega)
    have : i' = i := by omega
    subst this
    refine objAt_mk hc ⟨_, e1, q2, q3, fun k hk9 => ?_⟩ ((objAt_sz ho).set q1 e1)
    obtain ⟨cf, kf2, fi2, fd, hi2, hsl⟩ := hS k hk9
    by_cases e : (wD G).2 i' k = f.slot
    · have hnm : (T k).2.1 = fn := Classical.byContradiction fun hne => by
        refine u_apart (u_lays (hk.ws args) hc.2.2.1 hk9) (Or.inr hlay) hi2 hf' ?_ (by rw [hsl]; exact e)
        rw [(State.fieldFound?_type hi2 (hc.2.2.2.2.1 k hk9)).1, (State.fieldFound?_type hf' hty).1]
        exact hne
      show (cell.setSlot f.slot v).slots[(wD G).2 i' k]? = some (fv (F k).1 (F k).2 (h.1 (b + 1)))
      rw [hv k hk9 hnm, e]
      simp [Cell.setSlot, hsz]
    · have h9 := q4 k hk9
      simp only [Cell.setSlot]
      rw [Array.getElem?_setIfInBounds_ne (fun z => e z.symm)]
      exact h9
  rw [hset_id] at hR9
  refine W.nar (kk H' _ hR9 (fun z hz => ?_))
  rcases List.mem_append.mp hz with g | g
  · exact hL z g
  · rw [List.mem_singleton.mp g]; exact hbw hi
theorem w_mmax {d index : Nat} (hx : p.tables.exec = Jvm.exec) (hb : c.code = cc) (hown : s.vm.findClass own = some m.cls) (hk : KN G s) (hR : Rp G h H) (hRr : d + 1 ≤ R.frames ∧ 96 * (d + 1) ≤ R.locals ∧ wC G ≤ R.cells + s.heap.size ∧ wS G ≤ R.slots + tsl s.heap ∧ 8 ≤ d) (hsz : ls.size = c.maxLocals) (hrest : (rest.map fun v => v.category).sum ≤ 80)
    (q0 : Cond.methodLink own index Lib.Math.max.name ∈ lw_all) (q1 : Cond.static Lib.Math.max.name ∈ lw_all) (q2 : Cond.initialized "java/lang/Math" ∈ lw_all) (q3 : Cond.code Lib.Math.max.name Lib.Math.max.code 2 (some .int) ∈ lw_all) {x y : Int32} (hdg : decode cc pc = .ok (.invokestatic index, 3))
    (kk : Wn p l e R s m args below meth c H locs Q (F0 m (pc + 3) ls (.int (jmax x y) :: rest))) : Wn p l e R s m args below meth c H locs Q (F0 m pc ls (.int y :: .int x :: rest)) := by
  have r3 := hR.2.2.1
  have r4 := hR.2.2.2.1
  exact va_mmax hx hb hsz.symm hown (hk.w q0 args) (hk.w q1 args) (hk.w q2 args) (hk.w q3 args) (by omega) (by omega) (by omega) (by omega) hdg kk
theorem w_mmin {d index : Nat} (hx : p.tables.exec = Jvm.exec) (hb : c.code = cc) (hown : s.vm.findClass own = some m.cls) (hk : KN G s) (hR : Rp G h H) (hRr : d + 1 ≤ R.frames ∧ 96 * (d + 1) ≤ R.locals ∧ wC G ≤ R.cells + s.heap.size ∧ wS G ≤ R.slots + tsl s.heap ∧ 8 ≤ d) (hsz : ls.size = c.maxLocals) (hrest : (rest.map fun v => v.category).sum ≤ 80)
    (q0 : Cond.methodLink own index Lib.Math.min.name ∈ lw_all) (q1 : Cond.static Lib.Math.min.name ∈ lw_all) (q2 : Cond.initialized "java/lang/Math" ∈ lw_all) (q3 : Cond.code Lib.Math.min.name Lib.Math.min.code 2 (some .int) ∈ lw_all) {x y : Int32} (hdg : decode cc pc = .ok (.invokestatic index, 3))
    (kk : Wn p l e R s m args below meth c H locs Q (F0 m (pc + 3) ls (.int (jmin x y) :: rest))) : Wn p l e R s m args below meth c H locs Q (F0 m pc ls (.int y :: .int x :: rest)) := by
  have r3 := hR.2.2.1
  have r4 := hR.2.2.2.1
  exact va_mmin hx hb hsz.symm hown (hk.w q0 args) (hk.w q1 args) (hk.w q2 args) (hk.w q3 args) (by omega) (by omega) (by omega) (by omega) hdg kk
end ROWS6
