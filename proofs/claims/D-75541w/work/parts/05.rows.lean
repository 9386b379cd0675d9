section FWR
/-! heaps that change -/
theorem Rp.ne0 {G : Wd} {h : VH} {H : Heap} (hR : Rp G h H) {a : Nat} (ha : (h.1 a).1 ≠ 0) : ∃ b, a = b + 1 ∧ b < H.size := by
  obtain ⟨r1, r2, r3, r4, r5, r6, r7, r8, -⟩ := hR
  cases a with
  | zero => exact absurd r7 ha
  | succ b =>
    refine ⟨b, rfl, ?_⟩
    rcases Nat.lt_or_ge b H.size with q | q
    · exact q
    · exact absurd (r8 b q) ha
theorem Rp.obj {G : Wd} {h : VH} {H : Heap} (hR : Rp G h H) {a i : Nat} (ha : (h.1 a).1 = i + 1) (hi : i < 100) : ∃ b, a = b + 1 ∧ objAt G (h.1 a) i b H ∧ (i < 27 → wB G ≤ b) := by
  obtain ⟨b, rfl, -⟩ := hR.ne0 (a := a) (by omega)
  exact ⟨b, rfl, hR.2.2.2.2.2.2.2.2.1 b i ha hi⟩
theorem Rp.arr {G : Wd} {h : VH} {H : Heap} (hR : Rp G h H) {a t : Nat} (ha : (h.1 a).1 = 200 + t) (ht : t < 200) : ∃ b, a = b + 1 ∧ arrAt G (h.1 a) (t % 100) b H ∧ (t < 100 → wB G ≤ b) := by
  obtain ⟨b, rfl, -⟩ := hR.ne0 (a := a) (by omega)
  exact ⟨b, rfl, hR.2.2.2.2.2.2.2.2.2 b t ha ht⟩
theorem Rp.fresh {G : Wd} {h : VH} {H : Heap} (hR : Rp G h H) {a : Nat} (ha : (h.1 a).1 ≠ 0) : a < h.2.1 := by
  obtain ⟨b, rfl, hb⟩ := hR.ne0 ha
  have := hR.1
  omega
theorem Rp.set {G : Wd} {h : VH} {H H1 : Heap} (hR : Rp G h H) {b : Nat} {c1 : VC} (hc : c1.1 = (h.1 (b + 1)).1) (hs : H1.size = H.size) (ht : tsl H1 = tsl H) (ho : ∀ q : Nat, q ≠ b → H1[q]? = H[q]?) (hb : wB G ≤ b) (hbl : b < H.size)
    (hob : ∀ i : Nat, c1.1 = i + 1 → i < 100 → objAt G c1 i b H1) (har : ∀ t : Nat, c1.1 = 200 + t → t < 200 → arrAt G c1 (t % 100) b H1) : Rp G (hset h (b + 1) c1) H1 := by
  obtain ⟨r1, r2, r3, r4, r5, r6, r7, r8, r9, r10⟩ := hR
  refine ⟨by rw [hs]; exact r1, by rw [ht]; exact r2, by rw [hs]; exact r3, by rw [ht]; exact r4, by rw [hs]; exact r5, fun q hq => ?_, ?_, fun a ha => ?_, fun a i e hi => ?_, fun a t e hi => ?_⟩
  · rw [ho q (by omega)]; exact r6 q hq
  · show (if (0 : Nat) = b + 1 then c1 else h.1 0).1 = 0
    rw [if_neg (by omega)]; exact r7
  · show (if a + 1 = b + 1 then c1 else h.1 (a + 1)).1 = 0
    rw [if_neg (by omega)]
    exact r8 a (by omega)
  · have e' : (if a + 1 = b + 1 then c1 else h.1 (a + 1)).1 = i + 1 := e
    show objAt G (if a + 1 = b + 1 then c1 else h.1 (a + 1)) i a H1 ∧ _
    by_cases hab : a = b
    · subst hab
      rw [if_pos rfl] at e' ⊢
      exact ⟨hob i e' hi, fun _ => hb⟩
    · rw [if_neg (by omega)] at e' ⊢
      obtain ⟨g1, g2⟩ := r9 a i e' hi
      exact ⟨objAt_kept g1 (ho a hab), g2⟩
  · have e' : (if a + 1 = b + 1 then c1 else h.1 (a + 1)).1 = 200 + t := e
    show arrAt G (if a + 1 = b + 1 then c1 else h.1 (a + 1)) (t % 100) a H1 ∧ _
    by_cases hab : a = b
    · subst hab
      rw [if_pos rfl] at e' ⊢
      exact ⟨har t e' hi, fun _ => hb⟩
    · rw [if_neg (by omega)] at e' ⊢
      obtain ⟨g1, g2⟩ := r10 a t e' hi
      exact ⟨arrAt_kept g1 (ho a hab), g2⟩
theorem Rp.al {G : Wd} {h : VH} {H H1 : Heap} (hR : Rp G h H) {c n N : Nat} (hs : H1.size = H.size + 1) (ht : tsl H1 = tsl H + N) (ho : ∀ q : Nat, q < H.size → H1[q]? = H[q]?) (hmC : h.2.1 ≤ wC G) (hmS : h.2.2 + N ≤ wS G)
    (hob : ∀ i : Nat, c = i + 1 → i < 100 → objAt G (vc0 c n) i H.size H1) (har : ∀ t : Nat, c = 200 + t → t < 200 → arrAt G (vc0 c n) (t % 100) H.size H1) : Rp G (al h c n N) H1 := by
  obtain ⟨r1, r2, r3, r4, r5, r6, r7, r8, r9, r10⟩ := hR
  have key : ∀ a : Nat, a + 1 = h.2.1 ↔ a = H.size := fun a => by omega
  refine ⟨by rw [hs]; show H.size + 1 + 1 = h.2.1 + 1; omega, by rw [ht]; show tsl H + N = h.2.2 + N; omega, by omega, by omega, by omega, fun q hq => ?_, ?_, fun a ha => ?_, fun a i e hi => ?_, fun a t e hi => ?_⟩
  · rw [ho q (by omega)]; exact r6 q hq
  · show (if (0 : Nat) = h.2.1 then vc0 c n else h.1 0).1 = 0
    rw [if_neg (by omega)]; exact r7
  · show (if a + 1 = h.2.1 then vc0 c n else h.1 (a + 1)).1 = 0
    rw [if_neg (by omega)]
    exact r8 a (by omega)
  · have e' : (if a + 1 = h.2.1 then vc0 c n else h.1 (a + 1)).1 = i + 1 := e
    show objAt G (if a + 1 = h.2.1 then vc0 c n else h.1 (a + 1)) i a H1 ∧ _
    by_cases hab : a = H.size
    · subst hab
      rw [if_pos (by omega)] at e' ⊢
      exact ⟨hob i e' hi, fun _ => r5⟩
    · rw [if_neg (by omega)] at e' ⊢
      obtain ⟨g1, g2⟩ := r9 a i e' hi
      exact ⟨objAt_kept g1 (ho a (objAt_lt g1)), g2⟩
  · have e' : (if a + 1 = h.2.1 then vc0 c n else h.1 (a + 1)).1 = 200 + t := e
    show arrAt G (if a + 1 = h.2.1 then vc0 c n else h.1 (a + 1)) (t % 100) a H1 ∧ _
    by_cases hab : a = H.size
    · subst hab
      rw [if_pos (by omega)] at e' ⊢
      exact ⟨har t e' hi, fun _ => r5⟩
    · rw [if_neg (by omega)] at e' ⊢
      obtain ⟨g1, g2⟩ := r10 a t e' hi
      exact ⟨arrAt_kept g1 (ho a (arrAt_lt g1)), g2⟩
end FWR
/-- what a class's table says -/
def CLOK (i : Nat) (C : String) (T : u_T) (N : Nat) (F : Nat → FieldType × Nat) : Prop :=
  CL[i]? = some (C, T, N) ∧ CFL[i]? = some F ∧ (∀ w ∈ u_ws C T N, w ∈ lw_all) ∧ (∀ a, a < N → ∀ b, b < N → a ≠ b → (T a).2.1 ≠ (T b).2.1) ∧ (∀ k, k < N → parseFieldDescriptor (T k).2.2.1 = some (F k).1) ∧ ∀ a, a < N → ∀ b, b < N → a ≠ b → (F a).2 ≠ (F b).2
theorem objAt_of {G : Wd} {c : VC} {i a : Nat} {H : Heap} {C : String} {T : u_T} {N : Nat} {F : Nat → FieldType × Nat} (hc : CLOK i C T N F) (h : objAt G c i a H) : t_OB a ((wD G).1 i) N ((wD G).2 i) H (fun k => fv (F k).1 (F k).2 c) := by
  obtain ⟨r, F', h1, h2, h3, -⟩ := h
  cases h1.symm.trans hc.1
  cases h2.symm.trans hc.2.1
  exact h3
theorem objAt_mk {G : Wd} {c : VC} {i a : Nat} {H : Heap} {C : String} {T : u_T} {N : Nat} {F : Nat → FieldType × Nat} (hc : CLOK i C T N F) (h : t_OB a ((wD G).1 i) N ((wD G).2 i) H (fun k => fv (F k).1 (F k).2 c)) (hz : szAt i a H) : objAt G c i a H := ⟨_, F, hc.1, hc.2.1, h, hz⟩
theorem objAt_sz {G : Wd} {c : VC} {i a : Nat} {H : Heap} (h : objAt G c i a H) : szAt i a H := by
  obtain ⟨r, F, h1, h2, h3, h4⟩ := h
  exact h4
theorem szAt.set {i a : Nat} {H H1 : Heap} {cell : Cell} {k : Nat} {v : Value} (h : szAt i a H) (g : H[a]? = some cell) (e : H1[a]? = some (cell.setSlot k v)) : szAt i a H1 := h.elim Or.inl (fun ⟨c, g1, g2⟩ => Or.inr ⟨_, e, by cases g.symm.trans g1; simpa [Cell.setSlot] using g2⟩)
theorem cls_of {G : Wd} {s : State} (hk : KN G s) {c : VC} {i a : Nat} {H : Heap} {C : String} (hc : (CL[i]?).map (·.1) = some C) (h : objAt G c i a H) : ∃ cell : Cell, H[a]? = some cell ∧ cell.vm.isStatics = false ∧ s.vm.findClass C = some cell.cls := by
  obtain ⟨r, F, h1, h2, ⟨cell, g1, g2, g3, -⟩, -⟩ := h
  rw [h1] at hc
  cases hc
  exact ⟨cell, g1, by rw [g3]; rfl, by rw [g2]; exact (hk.k.1 i r h1).2.1⟩
def intK (ty : FieldType) : Bool := match ty with
  | .long => false
  | .object _ => false
  | .array _ => false
  | .float => false
  | .double => false
  | _ => true
def refK (ty : FieldType) : Bool := match ty with
  | .object _ => true
  | .array _ => true
  | _ => false
theorem fv_cI {ty : FieldType} {f g : Nat} {v : Int32} {c : VC} (h : g ≠ f) : fv ty g (cI c f v) = fv ty g c := by
  cases ty <;> simp [fv, cI, h]
theorem fv_cI' {ty : FieldType} {f : Nat} {v : Int32} {c : VC} (h : intK ty = true) : fv ty f (cI c f v) = .int v := by
  cases ty <;> simp_all [fv, cI, intK]
theorem fv_cL {ty : FieldType} {f g : Nat} {v : Int64} {c : VC} (h : g ≠ f) : fv ty g (cL c f v) = fv ty g c := by
  cases ty <;> simp [fv, cL, h]
theorem fv_cR {ty : FieldType} {f g : Nat} {v : Nat} {c : VC} (h : g ≠ f) : fv ty g (cR c f v) = fv ty g c := by
  cases ty <;> simp [fv, cR, h]
theorem fv_cR' {ty : FieldType} {f : Nat} {v : Nat} {c : VC} (h : refK ty = true) : fv ty f (cR c f v) = vr v := by
  cases ty <;> simp_all [fv, cR, refK]
theorem vr_fit {ty : FieldType} (h : refK ty = true) (a : Nat) : narrow ty (vr a) = vr a ∧ fits ty (vr a) = true := by
  cases a <;> cases ty <;> simp_all [refK, vr, narrow, fits]
theorem outer_eq (cA : ClassId) (N h0 : Nat) : ∀ i, Jvm.Free.Multi.outerC cA N h0 i = { cls := cA, slots := (Jvm.Free.Multi.outerC cA N h0 i).slots, vm := .none } := by
  intro i
  induction i with
  | zero => rfl
  | succ i ih =>
    show (Jvm.Free.Multi.outerC cA N h0 i).setSlot i _ = _
    rw [ih]
    rfl
section ROWS
variable {p : Program} {l : Launch} {e : Env} {R : Room} {s : State} {m : MethodId} {args : Array Value} {below : List Frame} {meth : Method} {c : Code} {H : Heap} {locs : List Loc} {Q : State → Prop} {G : Wd} {h : VH}
variable {cc : ByteArray} {pc : Nat} {ls : Array Slot} {rest : List Value} {own : String}
theorem w_aload_n {cells slots : Nat} (hx : p.tables.exec = Jvm.exec) (hb : c.code = cc) {k : Fin 4} {i a : Nat} (hdg : decode cc pc = .ok (.aload_n k, 1)) (hi : (k : Nat) = i) (hl : ls[i]? = some (.val (vr a)))
    (kk : W p l e R s m args below meth c H locs cells slots Q (F0 m (pc + 1) ls (vr a :: rest))) : W p l e R s m args below meth c H locs cells slots Q (F0 m pc ls rest) := by
  cases a with
  | zero => exact lv_aload_nN hx hb hdg hi hl kk
  | succ a => exact lv_aload_n hx hb hdg hi hl kk
theorem w_aload {cells slots : Nat} (hx : p.tables.exec = Jvm.exec) (hb : c.code = cc) {i a : Nat} (hdg : decode cc pc = .ok (.aload i, 2)) (hl : ls[i]? = some (.val (vr a)))
    (kk : W p l e R s m args below meth c H locs cells slots Q (F0 m (pc + 2) ls (vr a :: rest))) : W p l e R s m args below meth c H locs cells slots Q (F0 m pc ls rest) := by
  cases a with
  | zero => exact lv_aloadN hx hb hdg hl kk
  | succ a => exact lv_aload hx hb hdg hl kk
theorem w_astore_n {cells slots : Nat} (hx : p.tables.exec = Jvm.exec) (hb : c.code = cc) {k : Fin 4} {i nL a : Nat} {lv lv' : List (Nat × Value)} (hdg : decode cc pc = .ok (.astore_n k, 1)) (hi : (k : Nat) = i) (h : lv_has ls nL lv) (hn : i < nL) (hl : (i, vr a) :: lv.filter (fun q => !(q.1 == i) && !(q.1 + 1 == i && q.2.category == 2)) = lv')
    (kk : ∀ ls' : Array Slot, lv_has ls' nL lv' → W p l e R s m args below meth c H locs cells slots Q (F0 m (pc + 1) ls' rest)) : W p l e R s m args below meth c H locs cells slots Q (F0 m pc ls (vr a :: rest)) := by
  cases a with
  | zero => exact lv_astore_nN hx hb hdg hi h hn hl kk
  | succ a => exact lv_astore_n hx hb hdg hi h hn hl kk
theorem w_astore {cells slots : Nat} (hx : p.tables.exec = Jvm.exec) (hb : c.code = cc) {i nL a : Nat} {lv lv' : List (Nat × Value)} (hdg : decode cc pc = .ok (.astore i, 2)) (h : lv_has ls nL lv) (hn : i < nL) (hl : (i, vr a) :: lv.filter (fun q => !(q.1 == i) && !(q.1 + 1 == i && q.2.category == 2)) = lv')
    (kk : ∀ ls' : Array Slot, lv_has ls' nL lv' → W p l e R s m args below meth c H locs cells slots Q (F0 m (pc + 2) ls' rest)) : W p l e R s m args below meth c H locs cells slots Q (F0 m pc ls (vr a :: rest)) := by
  cases a with
  | zero => exact lv_astoreN hx hb hdg h hn hl kk
  | succ a => exact lv_astore hx hb hdg h hn hl kk
theorem w_null {cells slots : Nat} (hx : p.tables.exec = Jvm.exec) (hb : c.code = cc) (hdg : decode cc pc = .ok (.aconst_null, 1)) (kk : W p l e R s m args below meth c H locs cells slots Q (F0 m (pc + 1) ls (vr 0 :: rest))) : W p l e R s m args below meth c H locs cells slots Q (F0 m pc ls rest) := lv_null hx hb hdg kk
theorem w_ifnull {cells slots : Nat} (hx : p.tables.exec = Jvm.exec) (hb : c.code = cc) {a : Nat} {off : Int} {tgt : Nat} (hdg : decode cc pc = .ok (.ifnull off, 3)) (ht : (pc : Int) + off = (tgt : Int)) (kt : a = 0 → W p l e R s m args below meth c H locs cells slots Q (F0 m tgt ls rest)) (kf : ¬ a = 0 → W p l e R s m args below meth c H locs cells slots Q (F0 m (pc + 3) ls rest)) : W p l e R s m args below meth c H locs cells slots Q (F0 m pc ls (vr a :: rest)) := by
  cases a with
  | zero => exact lv_ifnullN hx hb hdg ht (kt rfl)
  | succ a => exact lv_ifnull hx hb hdg (kf (by omega))
theorem w_ifnonnull {cells slots : Nat} (hx : p.tables.exec = Jvm.exec) (hb : c.code = cc) {a : Nat} {off : Int} {tgt : Nat} (hdg : decode cc pc = .ok (.ifnonnull off, 3)) (ht : (pc : Int) + off = (tgt : Int)) (kt : ¬ a = 0 → W p l e R s m args below meth c H locs cells slots Q (F0 m tgt ls rest)) (kf : a = 0 → W p l e R s m args below meth c H locs cells slots Q (F0 m (pc + 3) ls rest)) : W p l e R s m args below meth c H locs cells slots Q (F0 m pc ls (vr a :: rest)) := by
  cases a with
  | zero => exact lv_ifnonnullN hx hb hdg (kf rfl)
  | succ a => exact lv_ifnonnull hx hb hdg ht (kt (by omega))
def voa (a : Nat) : Option Nat := match a with
  | 0 => none
  | a + 1 => some a
theorem vr_voa (a : Nat) : vr a = va_rf (voa a) := by cases a <;> rfl
theorem voa_inj {a b : Nat} : voa a = voa b ↔ a = b := by
  cases a <;> cases b <;> simp [voa]
theorem w_acmp_eq {cells slots : Nat} (hx : p.tables.exec = Jvm.exec) (hb : c.code = cc) {a b : Nat} {off : Int} {tgt : Nat} (hdg : decode cc pc = .ok (.if_acmp .eq off, 3)) (ht : (pc : Int) + off = (tgt : Int))
    (kt : a = b → W p l e R s m args below meth c H locs cells slots Q (F0 m tgt ls rest)) (kf : ¬ a = b → W p l e R s m args below meth c H locs cells slots Q (F0 m (pc + 3) ls rest)) : W p l e R s m args below meth c H locs cells slots Q (F0 m pc ls (vr b :: vr a :: rest)) := by
  rw [vr_voa, vr_voa]
  exact lv_acmp_eq hx hb hdg ht (fun q => kt (voa_inj.mp q)) (fun q => kf (fun z => q (voa_inj.mpr z)))
theorem w_acmp_ne {cells slots : Nat} (hx : p.tables.exec = Jvm.exec) (hb : c.code = cc) {a b : Nat} {off : Int} {tgt : Nat} (hdg : decode cc pc = .ok (.if_acmp .ne off, 3)) (ht : (pc : Int) + off = (tgt : Int))
    (kt : ¬ a = b → W p l e R s m args below meth c H locs cells slots Q (F0 m tgt ls rest)) (kf : a = b → W p l e R s m args below meth c H locs cells slots Q (F0 m (pc + 3) ls rest)) : W p l e R s m args below meth c H locs cells slots Q (F0 m pc ls (vr b :: vr a :: rest)) := by
  rw [vr_voa, vr_voa]
  exact lv_acmp_ne hx hb hdg ht (fun q => kt (fun z => q (voa_inj.mpr z))) (fun q => kf (voa_inj.mp q))
/-! fields -/
theorem w_get (hx : p.tables.exec = Jvm.exec) (hb : c.code = cc) (hown : s.vm.findClass own = some m.cls) (hk : KN G s) (hR : Rp G h H) {i a k N index : Nat} {C ref : String} {T : u_T} {F : Nat → FieldType × Nat} {v : Value} (hc : CLOK i C T N F) (hkd : (h.1 a).1 = i + 1) (hi : i < 100) (hkN : k < N)
    (hlink : Cond.fieldLink own index ref (T k).2.1 (T k).2.2.1 ∈ lw_all) (hsame : ∀ x, s.fieldFound? (T k).1 (T k).2.1 (T k).2.2.1 = some x → s.fieldFound? ref (T k).2.1 (T k).2.2.1 = some x) (hv : fv (F k).1 (F k).2 (h.1 a) = v) (hdg : decode cc pc = .ok (.getfield index, 3))
    (kk : Wn p l e R s m args below meth c H locs Q (F0 m (pc + 3) ls (v :: rest))) : Wn p l e R s m args below meth c H locs Q (F0 m pc ls (vr a :: rest)) := by
  obtain ⟨b, rfl, ho, -⟩ := hR.obj hkd hi
  obtain ⟨cell, q1, q2, q3, q4⟩ := objAt_of hc ho
  obtain ⟨hS, hfc, kC, hkC, hkind⟩ := hk.k.1 i _ hc.1
  obtain ⟨cf, kf, fi, f, hi', hsl⟩ := hS k hkN
  refine W.getf hx hb hown (hk.w hlink args) (hsame _ hi') (u_facts hfc hkC (u_lays (hk.ws args) hc.2.2.1 hkN) hi').1 q1 (by rw [q3]; exact fun h => by cases h) (v := v) ?_ rfl rfl hdg kk
  rw [hsl, q4 k hkN]
  exact congrArg some hv
theorem w_getN (hx : p.tables.exec = Jvm.exec) (hb : c.code = cc) (hown : s.vm.findClass own = some m.cls) (hk : KN G s) (hR : Rp G h H) {i a k N index : Nat} {C ref host : String} {T : u_T} {F : Nat → FieldType × Nat} {v : Value} (hc : CLOK i C T N F) (hkd : (h.1 a).1 = i + 1) (hi : i < 100) (hkN : k < N)
    (hlink : Cond.fieldLinkNest own index ref (T k).2.1 (T k).2.2.1 host ∈ lw_tbl) (hsame : ∀ x, s.fieldFound? (T k).1 (T k).2.1 (T k).2.2.1 = some x → s.fieldFound? ref (T k).2.1 (T k).2.2.1 = some x) (hv : fv (F k).1 (F k).2 (h.1 a) = v) (hdg : decode cc pc = .ok (.getfield index, 3))
    (kk : Wn p l e R s m args below meth c H locs Q (F0 m (pc + 3) ls (v :: rest))) : Wn p l e R s m args below meth c H locs Q (F0 m pc ls (vr a :: rest)) := by
  obtain ⟨b, rfl, ho, -⟩ := hR.obj hkd hi
  obtain ⟨cell, q1, q2, q3, q4⟩ := objAt_of hc ho
  obtain ⟨hS, hfc, kC, hkC, hkind⟩ := hk.k.1 i _ hc.1
  obtain ⟨cf, kf, fi, f, hi', hsl⟩ := hS k hkN
  refine va_Wgetf hx hb hown (hk.nF hlink args) (hsame _ hi') (u_facts hfc hkC (u_lays (hk.ws args) hc.2.2.1 hkN) hi').1 q1 (by rw [q3]; exact fun h => by cases h) (v := v) ?_ rfl rfl hdg kk
  rw [hsl, q4 k hkN]
  exact congrArg some hv
/-- what a store into field k makes of the heap -/
theorem put_heap (hk : KN G s) (hR : Rp G h H) {i b k N : Nat} {C : String} {T : u_T} {F : Nat → FieldType × Nat} {v : Value} {c1 : VC} {H1 : Heap} {cell : Cell} (hc : CLOK i C T N F) (hkd : (h.1 (b + 1)).1 = i + 1) (hi : i < 27) (hkN : k < N)
    (hc1 : c1.1 = (h.1 (b + 1)).1) (hv1 : ∀ j, j < N → fv (F j).1 (F j).2 c1 = if j = k then v else fv (F j).1 (F j).2 (h.1 (b + 1)))
    (g1 : H[b]? = some cell) (g2 : cell.cls = (wD G).1 i) (g3 : cell.vm = .none) (g4 : ∀ j, j < N → cell.slots[(wD G).2 i j]? = some (fv (F j).1 (F j).2 (h.1 (b + 1))))
    (e1 : H1[b]? = some (cell.setSlot ((wD G).2 i k) v)) (e2 : H1.size = H.size) (e3 : ∀ q, q ≠ b → H1[q]? = H[q]?) : Rp G (hset h (b + 1) c1) H1 := by
  have hap := va_apart (own := "") (hk.ws #[]) hc.2.2.1 (fun k => (F k).1) hc.2.2.2.2.1 hc.2.2.2.1 hk.k hc.1
  have hb := ((hR.2.2.2.2.2.2.2.2.1 b i hkd (by omega)).2) hi
  have hbl : b < H.size := (Array.getElem?_eq_some_iff.mp g1).1
  refine hR.set hc1 e2 (tsl_upd e2 g1 e1 (by simp [Cell.setSlot]) e3) e3 hb hbl (fun i' hi' _ => ?_) (fun t ht _ => ?_)
  · have : i' = i := by omega
    subst this
    refine objAt_mk hc (t_OB.to (V := updV (fun k => fv (F k).1 (F k).2 (h.1 (b + 1))) k v) ⟨_, e1, g2, g3, t_set g4 hap hkN v⟩ (fun j hj => ?_)) ((objAt_sz ((hR.2.2.2.2.2.2.2.2.1 b i' hkd (by omega)).1)).set g1 e1)
    rw [hv1 j hj]
    rfl
  · omega
theorem w_put (hx : p.tables.exec = Jvm.exec) (hb : c.code = cc) (hown : s.vm.findClass own = some m.cls) (hk : KN G s) (hR : Rp G h H) (hL : ∀ z ∈ locs, wB G ≤ z.base) {i a k N index : Nat} {C ref : String} {T : u_T} {F : Nat → FieldType × Nat} {v : Value} (c1 : VC) (hc : CLOK i C T N F) (hkd : (h.1 a).1 = i + 1) (hi : i < 27) (hkN : k < N)
    (hlink : Cond.fieldLink own index ref (T k).2.1 (T k).2.2.1 ∈ lw_all) (hsame : ∀ x, s.fieldFound? (T k).1 (T k).2.1 (T k).2.2.1 = some x → s.fieldFound? ref (T k).2.1 (T k).2.2.1 = some x) (hfin : (T k).2.2.2 = false) (hn : narrow (F k).1 v = v ∧ fits (F k).1 v = true)
    (hc1 : c1.1 = (h.1 a).1) (hv1 : ∀ j, j < N → fv (F j).1 (F j).2 c1 = if j = k then v else fv (F j).1 (F j).2 (h.1 a)) (hdg : decode cc pc = .ok (.putfield index, 3))
    (kk : ∀ (H1 : Heap) (locs1 : List Loc), Rp G (hset h a c1) H1 → (∀ z ∈ locs1, wB G ≤ z.base) → Wn p l e R s m args below meth c H1 locs1 Q (F0 m (pc + 3) ls rest)) : Wn p l e R s m args below meth c H locs Q (F0 m pc ls (v :: vr a :: rest)) := by
  obtain ⟨b, rfl, ho, hbw⟩ := hR.obj hkd (by omega)
  obtain ⟨cell, q1, q2, q3, q4⟩ := objAt_of hc ho
  obtain ⟨hS, hfc, kC, hkC, hkind⟩ := hk.k.1 i _ hc.1
  obtain ⟨cf, kf, fi, f, hi', hsl⟩ := hS k hkN
  have hlay := hk.w (hc.2.2.1 _ (u_in_lay hkN)) args
  unfold u_lay at hlay
  rw [if_neg (by rw [hfin]; decide)] at hlay
  have hst := (u_facts hfc hkC (u_lays (hk.ws args) hc.2.2.1 hkN) hi').1
  have h6 := u_store hfc hkC hkind hlay hi' (hc.2.2.2.2.1 k hkN) hn.1 hn.2
  refine W.putK hx hb (f := f) ⟨hown, hk.w hlink args, ⟨_, _, _, hsame _ hi'⟩, hst⟩ (by rw [q2]; exact h6) q1 q3 (by rw [hsl]; exact k2_hasslot (q4 k hkN)) rfl rfl hdg fun H' e1 e2 e3 => ?_
  rw [hsl] at e1
  refine W.nar (kk H' _ (put_heap hk hR hc hkd hi hkN hc1 hv1 q1 q2 q3 q4 e1 e2 e3) (fun z hz => ?_))
  rcases List.mem_append.mp hz with g | g
  · exact hL z g
  · rw [List.mem_singleton.mp g]; exact hbw hi
theorem w_putN (hx : p.tables.exec = Jvm.exec) (hb : c.code = cc) (hown : s.vm.findClass own = some m.cls) (hk : KN G s) (hR : Rp G h H) (hL : ∀ z ∈ locs, wB G ≤ z.base) {i a k N index : Nat} {C ref host : String} {T : u_T} {F : Nat → FieldType × Nat} {v : Value} (c1 : VC) (hc : CLOK i C T N F) (hkd : (h.1 a).1 = i + 1) (hi : i < 27) (hkN : k < N)
    (hlink : Cond.fieldLinkNest own index ref (T k).2.1 (T k).2.2.1 host ∈ lw_tbl) (hsame : ∀ x, s.fieldFound? (T k).1 (T k).2.1 (T k).2.2.1 = some x → s.fieldFound? ref (T k).2.1 (T k).2.2.1 = some x) (hfin : (T k).2.2.2 = false) (hn : narrow (F k).1 v = v ∧ fits (F k).1 v = true)
    (hc1 : c1.1 = (h.1 a).1) (hv1 : ∀ j, j < N → fv (F j).1 (F j).2 c1 = if j = k then v else fv (F j).1 (F j).2 (h.1 a)) (hdg : decode cc pc = .ok (.putfield index, 3))
    (kk : ∀ (H1 : Heap) (locs1 : List Loc), Rp G (hset h a c1) H1 → (∀ z ∈ locs1, wB G ≤ z.base) → Wn p l e R s m args below meth c H1 locs1 Q (F0 m (pc + 3) ls rest)) : Wn p l e R s m args below meth c H locs Q (F0 m pc ls (v :: vr a :: rest)) := by
  obtain ⟨b, rfl, ho, hbw⟩ := hR.obj hkd (by omega)
  obtain ⟨cell, q1, q2, q3, q4⟩ := objAt_of hc ho
  obtain ⟨hS, hfc, kC, hkC, hkind⟩ := hk.k.1 i _ hc.1
  obtain ⟨cf, kf, fi, f, hi', hsl⟩ := hS k hkN
  have hlay := hk.w (hc.2.2.1 _ (u_in_lay hkN)) args
  unfold u_lay at hlay
  rw [if_neg (by rw [hfin]; decide)] at hlay
  have hst := (u_facts hfc hkC (u_lays (hk.ws args) hc.2.2.1 hkN) hi').1
  have h6 := u_store hfc hkC hkind hlay hi' (hc.2.2.2.2.1 k hkN) hn.1 hn.2
  refine va_WputK hx hb (f := f) hown (hk.nF hlink args) (hsame _ hi') hst (by rw [q2]; exact h6) q1 q3 (by rw [hsl]; exact k2_hasslot (q4 k hkN)) rfl rfl hdg fun H' e1 e2 e3 => ?_
  rw [hsl] at e1
  refine W.nar (kk H' _ (put_heap hk hR hc hkd hi hkN hc1 hv1 q1 q2 q3 q4 e1 e2 e3) (fun z hz => ?_))
  rcases List.mem_append.mp hz with g | g
  · exact hL z g
  · rw [List.mem_singleton.mp g]; exact hbw hi
theorem w_putF (hx : p.tables.exec = Jvm.exec) (hb : c.code = cc) (hown : s.vm.findClass own = some m.cls) (hk : KN G s) (hR : Rp G h H) (hL : ∀ z ∈ locs, wB G ≤ z.base) {i a k N index : Nat} {C ref : String} {T : u_T} {F : Nat → FieldType × Nat} {v : Value} (c1 : VC) (hc : CLOK i C T N F) (hkd : (h.1 a).1 = i + 1) (hi : i < 27) (hkN : k < N)
    (hlink : Cond.fieldLink own index ref (T k).2.1 (T k).2.2.1 ∈ lw_all) (hsame : ∀ x, s.fieldFound? (T k).1 (T k).2.1 (T k).2.2.1 = some x → s.fieldFound? ref (T k).2.1 (T k).2.2.1 = some x) (hfin : (T k).2.2.2 = true) (hin2 : meth.name = "<init>") (hdecl : (T k).1 = own) (hn : narrow (F k).1 v = v ∧ fits (F k).1 v = true)
    (hc1 : c1.1 = (h.1 a).1) (hv1 : ∀ j, j < N → fv (F j).1 (F j).2 c1 = if j = k then v else fv (F j).1 (F j).2 (h.1 a)) (hdg : decode cc pc = .ok (.putfield index, 3))
    (kk : ∀ (H1 : Heap) (locs1 : List Loc), Rp G (hset h a c1) H1 → (∀ z ∈ locs1, wB G ≤ z.base) → Wn p l e R s m args below meth c H1 locs1 Q (F0 m (pc + 3) ls rest)) : Wn p l e R s m args below meth c H locs Q (F0 m pc ls (v :: vr a :: rest)) := by
  obtain ⟨b, rfl, ho, hbw⟩ := hR.obj hkd (by omega)
  obtain ⟨cell, q1, q2, q3, q4⟩ := objAt_of hc ho
  obtain ⟨hS, hfc, kC, hkC, hkind⟩ := hk.k.1 i _ hc.1
  obtain ⟨cf, kf, fi, f, hi', hsl⟩ := hS k hkN
  have hlay := hk.w (hc.2.2.1 _ (u_in_lay hkN)) args
  unfold u_lay at hlay
  rw [if_pos hfin] at hlay
  have hst := (u_facts hfc hkC (u_lays (hk.ws args) hc.2.2.1 hkN) hi').1
  have hcf : m.cls = cf := by
    obtain ⟨_, _, c', _, _, _, -, -, hf', -, -, -, hown2, -⟩ := Cond.laysFinal_spec hlay
    have e1 : c' = cf := by have := hi'.symm.trans hf'; simp at this; exact this.1.symm
    rw [hdecl] at hown2
    rw [← e1]; exact Option.some.inj (hown.symm.trans hown2)
  have h6 := u_fits hfc hkC hkind (Or.inr hlay) hi' (hc.2.2.2.2.1 k hkN) hn.1 hn.2
  refine W.putFinK hx hb hown (hk.w hlink args) (hsame _ hi') hst hcf hin2 (by rw [q2]; exact h6) q1 q3 (by rw [hsl]; exact k2_hasslot (q4 k hkN)) rfl rfl hdg fun H' e1 e2 e3 => ?_
  rw [hsl] at e1
  refine W.nar (kk H' _ (put_heap hk hR hc hkd hi hkN hc1 hv1 q1 q2 q3 q4 e1 e2 e3) (fun z hz => ?_))
  rcases List.mem_append.mp hz with g | g
  · exact hL z g
  · rw [List.mem_singleton.mp g]; exact hbw hi
theorem pvI {i k N f : Nat} {C : String} {T : u_T} {F : Nat → FieldType × Nat} {v : Int32} {c0 : VC} (hc : CLOK i C T N F) (hk : k < N) (hf : (F k).2 = f) (ht : intK (F k).1 = true) : ∀ j, j < N → fv (F j).1 (F j).2 (cI c0 f v) = if j = k then .int v else fv (F j).1 (F j).2 c0 := by
  intro j hj
  subst hf
  by_cases e : j = k
  · subst e; rw [if_pos rfl, fv_cI' ht]
  · rw [if_neg e, fv_cI (hc.2.2.2.2.2 j hj k hk e)]
theorem pvR {i k N f : Nat} {C : String} {T : u_T} {F : Nat → FieldType × Nat} {v : Nat} {c0 : VC} (hc : CLOK i C T N F) (hk : k < N) (hf : (F k).2 = f) (ht : refK (F k).1 = true) : ∀ j, j < N → fv (F j).1 (F j).2 (cR c0 f v) = if j = k then vr v else fv (F j).1 (F j).2 c0 := by
  intro j hj
  subst hf
  by_cases e : j = k
  · subst e; rw [if_pos rfl, fv_cR' ht]
  · rw [if_neg e, fv_cR (hc.2.2.2.2.2 j hj k hk e)]
/-! new objects -/
theorem w_new (hx : p.tables.exec = Jvm.exec) (hb : c.code = cc) (hown : s.vm.findClass own = some m.cls) (hk : KN G s) (hR : Rp G h H) (hL : ∀ z ∈ locs, wB G ≤ z.base) (hRC : wC G ≤ R.cells + s.heap.size) (hRS : wS G ≤ R.slots + tsl s.heap) (hsB : wB G ≤ s.heap.size) {i N n index : Nat} {C : String} {T : u_T} {F : Nat → FieldType × Nat} (hc : CLOK i C T N F)
    (hcl : Cond.classLink own index C ∈ lw_all) (hinst : Cond.instantiable C n ∈ lw_all) (hini : Cond.initialized C ∈ lw_all) (hmC : h.2.1 ≤ wC G) (hmS : h.2.2 + n ≤ wS G) (hdef : ∀ k, k < N → defaultValue (F k).1 = fv (F k).1 (F k).2 (vc0 (i + 1) 0)) (hi : i < 100) (hzO : szO i ≤ n) (hdg : decode cc pc = .ok (.new index, 3))
    (kk : ∀ (H1 : Heap), Rp G (al h (i + 1) 0 n) H1 → Wn p l e R s m args below meth c H1 locs Q (F0 m (pc + 3) ls (vr h.2.1 :: rest))) : Wn p l e R s m args below meth c H locs Q (F0 m pc ls rest) := by
  have hKn := hk.k.1 i _ hc.1
  have r1 := hR.1
  have r2 := hR.2.1
  refine W.sz fun hz1 hz2 => ?_
  refine W.newcK hx hb hown (hk.w hcl args) (hk.w hinst args) (hk.w hini args) rfl hdg (by omega) (by omega) hKn.2.1 rfl fun H1 kC hkC e1 z1 o1 => ?_
  obtain ⟨c0, kC', g1, g2, -, -, -, g4⟩ := Cond.instantiable_spec (hk.w hinst args)
  cases g1.symm.trans hKn.2.1
  cases g2.symm.trans hkC
  have hsz : (blank ((wD G).1 i) kC).slots.size = n := by
    simp [blank, g4]
  have hv : vr h.2.1 = .ref H.size := by rw [← r1]; rfl
  rw [← hv]
  refine W.nar (kk H1 (hR.al z1 (by rw [tsl_new z1 e1 o1, hsz]) o1 hmC hmS (fun i' hi' _ => ?_) (fun t ht _ => ?_)))
  · have : i' = i := by omega
    subst this
    exact objAt_mk hc (t_OB.to (u_born (fun k => (F k).1) (hk.ws args) hc.2.2.1 hKn hkC e1 hc.2.2.2.2.1) (fun k hk => hdef k hk)) (Or.inr ⟨_, e1, by rw [hsz]; exact hzO⟩)
  · omega
/-! arrays -/
theorem arr_K (hk : KN G s) {t : Nat} {ty : FieldType} (ht : (tysL G)[t]? = some (wT G t, ty)) : ArrOfT s (wT G t) ty := (hk.k.2 t _ ht).1
/-- TYS and tysL say the same -/
theorem tys_eq {t : Nat} {ty : FieldType} (h : TYS[t]? = some ty) : (tysL G)[t]? = some (wT G t, ty) := by
  have h2 : ∀ t : Nat, (tysL G)[t]? = (TYS[t]?).map (fun ty => (wT G t, ty)) := by
    intro t
    match t with
    | 0 => rfl
    | 1 => rfl
    | 2 => rfl
    | 3 => rfl
    | 4 => rfl
    | 5 => rfl
    | 6 => rfl
    | 7 => rfl
    | 8 => rfl
    | t + 9 => rfl
  rw [h2, h]
  rfl
theorem arr_cell (hR : Rp G h H) {a t : Nat} {ty : FieldType} (hkd : (h.1 a).1 = 200 + t) (ht : t < 200) (hty : TYS[t % 100]? = some ty) : ∃ b, a = b + 1 ∧ H[b]? = some (arrV (wT G (t % 100)) (ln h a) (fun j => fv ty j (h.1 a))) ∧ (t < 100 → wB G ≤ b) := by
  obtain ⟨b, rfl, ⟨ty', e1, e2⟩, h3⟩ := hR.arr hkd ht
  cases e1.symm.trans hty
  exact ⟨b, rfl, e2, h3⟩
theorem w_alen (hx : p.tables.exec = Jvm.exec) (hb : c.code = cc) (hk : KN G s) (hR : Rp G h H) {a t : Nat} {ty : FieldType} (hkd : (h.1 a).1 = 200 + t) (ht : t < 200) (hty : TYS[t % 100]? = some ty) (hdg : decode cc pc = .ok (.arraylength, 1))
    (kk : Wn p l e R s m args below meth c H locs Q (F0 m (pc + 1) ls (.int (Int32.ofNat (ln h a)) :: rest))) : Wn p l e R s m args below meth c H locs Q (F0 m pc ls (vr a :: rest)) := by
  obtain ⟨b, rfl, e1, -⟩ := arr_cell hR hkd ht hty
  exact W.alen (n := Int32.ofNat (ln h (b + 1))) hx hb e1 (arr_K hk (tys_eq hty) _ _) (by rw [arrV_size] <;> rfl) rfl rfl hdg kk
theorem w_iald (hx : p.tables.exec = Jvm.exec) (hb : c.code = cc) (hk : KN G s) (hR : Rp G h H) {a t : Nat} (hkd : (h.1 a).1 = 200 + t) (ht : t < 200) (hty : TYS[t % 100]? = some .int) {i : Int32} (hin : vp_in i (ln h a)) (hdg : decode cc pc = .ok (.iaload, 1))
    (kk : Wn p l e R s m args below meth c H locs Q (F0 m (pc + 1) ls (.int (gI h i.toNatClampNeg a) :: rest))) : Wn p l e R s m args below meth c H locs Q (F0 m pc ls (.int i :: vr a :: rest)) := by
  obtain ⟨b, rfl, e1, -⟩ := arr_cell hR hkd ht hty
  have hlt : i.toNatClampNeg < ln h (b + 1) := Nat.not_le.mp fun q => hin (Or.inr q)
  exact W.iald (v := .int (gI h i.toNatClampNeg (b + 1))) hx hb e1 (arr_K hk (tys_eq hty) _ _) (fun q => by cases q) (by rw [arrV_size]; exact hin) (by rw [arrV_read _ _ hlt]; rfl) rfl rfl hdg kk
theorem w_bald (hx : p.tables.exec = Jvm.exec) (hb : c.code = cc) (hk : KN G s) (hR : Rp G h H) {a t : Nat} (hkd : (h.1 a).1 = 200 + t) (ht : t < 200) (hty : TYS[t % 100]? = some .byte) {i : Int32} (hin : vp_in i (ln h a)) (hdg : decode cc pc = .ok (.baload, 1))
    (kk : Wn p l e R s m args below meth c H locs Q (F0 m (pc + 1) ls (.int (gI h i.toNatClampNeg a) :: rest))) : Wn p l e R s m args below meth c H locs Q (F0 m pc ls (.int i :: vr a :: rest)) := by
  obtain ⟨b, rfl, e1, -⟩ := arr_cell hR hkd ht hty
  have hlt : i.toNatClampNeg < ln h (b + 1) := Nat.not_le.mp fun q => hin (Or.inr q)
  exact W.bald (v := .int (gI h i.toNatClampNeg (b + 1))) hx hb e1 (arr_K hk (tys_eq hty) _ _) (fun q => by cases q) (by rw [arrV_size]; exact hin) (by rw [arrV_read _ _ hlt]; rfl) rfl rfl hdg kk
theorem w_zald (hx : p.tables.exec = Jvm.exec) (hb : c.code = cc) (hk : KN G s) (hR : Rp G h H) {a t : Nat} (hkd : (h.1 a).1 = 200 + t) (ht : t < 200) (hty : TYS[t % 100]? = some .boolean) {i : Int32} (hin : vp_in i (ln h a)) (hdg : decode cc pc = .ok (.baload, 1))
    (kk : Wn p l e R s m args below meth c H locs Q (F0 m (pc + 1) ls (.int (gI h i.toNatClampNeg a) :: rest))) : Wn p l e R s m args below meth c H locs Q (F0 m pc ls (.int i :: vr a :: rest)) := by
  obtain ⟨b, rfl, e1, -⟩ := arr_cell hR hkd ht hty
  have hlt : i.toNatClampNeg < ln h (b + 1) := Nat.not_le.mp fun q => hin (Or.inr q)
  exact W.zald (v := .int (gI h i.toNatClampNeg (b + 1))) hx hb e1 (arr_K hk (tys_eq hty) _ _) (fun q => by cases q) (by rw [arrV_size]; exact hin) (by rw [arrV_read _ _ hlt]; rfl) rfl rfl hdg kk
theorem w_lald (hx : p.tables.exec = Jvm.exec) (hb : c.code = cc) (hk : KN G s) (hR : Rp G h H) {a t : Nat} (hkd : (h.1 a).1 = 200 + t) (ht : t < 200) (hty : TYS[t % 100]? = some .long) {i : Int32} (hin : vp_in i (ln h a)) (hdg : decode cc pc = .ok (.laload, 1))
    (kk : Wn p l e R s m args below meth c H locs Q (F0 m (pc + 1) ls (.long (gL h i.toNatClampNeg a) :: rest))) : Wn p l e R s m args below meth c H locs Q (F0 m pc ls (.int i :: vr a :: rest)) := by
  obtain ⟨b, rfl, e1, -⟩ := arr_cell hR hkd ht hty
  have hlt : i.toNatClampNeg < ln h (b + 1) := Nat.not_le.mp fun q => hin (Or.inr q)
  exact W.lald (v := .long (gL h i.toNatClampNeg (b + 1))) hx hb e1 (arr_K hk (tys_eq hty) _ _) (fun q => by cases q) (by rw [arrV_size]; exact hin) (by rw [arrV_read _ _ hlt]; rfl) rfl rfl hdg kk
theorem w_aald (hx : p.tables.exec = Jvm.exec) (hb : c.code = cc) (hk : KN G s) (hR : Rp G h H) {a t : Nat} {ty : FieldType} (hkd : (h.1 a).1 = 200 + t) (ht : t < 200) (hty : TYS[t % 100]? = some ty) (hrf : refK ty = true) {i : Int32} (hin : vp_in i (ln h a)) (hdg : decode cc pc = .ok (.aaload, 1))
    (kk : Wn p l e R s m args below meth c H locs Q (F0 m (pc + 1) ls (vr (gR h i.toNatClampNeg a) :: rest))) : Wn p l e R s m args below meth c H locs Q (F0 m pc ls (.int i :: vr a :: rest)) := by
  obtain ⟨b, rfl, e1, -⟩ := arr_cell hR hkd ht hty
  have hlt : i.toNatClampNeg < ln h (b + 1) := Nat.not_le.mp fun q => hin (Or.inr q)
  exact W.aald (v := vr (gR h i.toNatClampNeg (b + 1))) (ty := ty) hx hb e1 (arr_K hk (tys_eq hty) _ _) (by cases ty <;> first | rfl | cases hrf) (fun q => by cases q) (by rw [arrV_size]; exact hin) (by rw [arrV_read _ _ hlt]; cases ty <;> first | rfl | cases hrf) rfl rfl hdg kk
/-- what a store into place j makes of the heap -/
theorem ast_heap (hR : Rp G h H) {b t j : Nat} {ty : FieldType} {v : Value} {c1 : VC} {H1 : Heap} (hkd : (h.1 (b + 1)).1 = 200 + t) (ht : t < 100) (hty : TYS[t]? = some ty) (hc1 : c1.1 = (h.1 (b + 1)).1 ∧ c1.2.2.2.2 = (h.1 (b + 1)).2.2.2.2) (hv1 : ∀ i, fv ty i c1 = if i = j then v else fv ty i (h.1 (b + 1)))
    (g1 : H[b]? = some (arrV (wT G t) (ln h (b + 1)) (fun j => fv ty j (h.1 (b + 1))))) (hbw : wB G ≤ b)
    (e1 : H1[b]? = some ((arrV (wT G t) (ln h (b + 1)) (fun j => fv ty j (h.1 (b + 1)))).setSlot j v)) (e2 : H1.size = H.size) (e3 : ∀ q, q ≠ b → H1[q]? = H[q]?) : Rp G (hset h (b + 1) c1) H1 := by
  have hbl : b < H.size := (Array.getElem?_eq_some_iff.mp g1).1
  rw [arrV_store] at e1
  refine hR.set hc1.1 e2 (tsl_upd e2 g1 e1 (by rw [arrV_size, arrV_size]) e3) e3 hbw hbl (fun i hi _ => ?_) (fun t' ht' _ => ?_)
  · omega
  · have : t' = t := by omega
    subst this
    refine ⟨ty, by rw [Nat.mod_eq_of_lt ht]; exact hty, ?_⟩
    rw [Nat.mod_eq_of_lt ht, e1, hc1.2]
    congr 2
    funext i
    rw [hv1 i]
    rfl
theorem avI {ty : FieldType} {j : Nat} {x : Int32} {c0 : VC} (h : intK ty = true) : ∀ i, fv ty i (cI c0 j x) = if i = j then .int x else fv ty i c0 := by
  intro i
  by_cases e : i = j
  · subst e; rw [if_pos rfl, fv_cI' h]
  · rw [if_neg e, fv_cI e]
theorem avR {ty : FieldType} {j x : Nat} {c0 : VC} (h : refK ty = true) : ∀ i, fv ty i (cR c0 j x) = if i = j then vr x else fv ty i c0 := by
  intro i
  by_cases e : i = j
  · subst e; rw [if_pos rfl, fv_cR' h]
  · rw [if_neg e, fv_cR e]
theorem w_iast (hx : p.tables.exec = Jvm.exec) (hb : c.code = cc) (hk : KN G s) (hR : Rp G h H) (hL : ∀ z ∈ locs, wB G ≤ z.base) {a : Nat} (hkd : (h.1 a).1 = 200) {i x : Int32} (hin : vp_in i (ln h a)) (hdg : decode cc pc = .ok (.iastore, 1))
    (kk : ∀ (H1 : Heap) (locs1 : List Loc), Rp G (sI h i.toNatClampNeg a x) H1 → (∀ z ∈ locs1, wB G ≤ z.base) → Wn p l e R s m args below meth c H1 locs1 Q (F0 m (pc + 1) ls rest)) : Wn p l e R s m args below meth c H locs Q (F0 m pc ls (.int x :: .int i :: vr a :: rest)) := by
  obtain ⟨b, rfl, e1, hbw⟩ := arr_cell (t := 0) (ty := .int) hR hkd (by omega) rfl
  refine W.iast hx hb e1 (arr_K hk (tys_eq (t := 0) rfl) _ _) (fun q => by cases q) (by rw [arrV_size]; exact hin) rfl rfl hdg fun H1 f1 f2 f3 => ?_
  refine W.nar (kk H1 _ (ast_heap (t := 0) (ty := .int) hR hkd (by omega) rfl ⟨rfl, rfl⟩ (avI rfl) e1 (hbw (by omega)) f1 f2 f3) (fun z hz => ?_))
  rcases List.mem_append.mp hz with g | g
  · exact hL z g
  · rw [List.mem_singleton.mp g]; exact hbw (by omega)
theorem w_bast (hx : p.tables.exec = Jvm.exec) (hb : c.code = cc) (hk : KN G s) (hR : Rp G h H) (hL : ∀ z ∈ locs, wB G ≤ z.base) {a : Nat} (hkd : (h.1 a).1 = 201) {i x : Int32} (hin : vp_in i (ln h a)) (hdg : decode cc pc = .ok (.bastore, 1))
    (kk : ∀ (H1 : Heap) (locs1 : List Loc), Rp G (sI h i.toNatClampNeg a (vp_nar .byte x)) H1 → (∀ z ∈ locs1, wB G ≤ z.base) → Wn p l e R s m args below meth c H1 locs1 Q (F0 m (pc + 1) ls rest)) : Wn p l e R s m args below meth c H locs Q (F0 m pc ls (.int x :: .int i :: vr a :: rest)) := by
  obtain ⟨b, rfl, e1, hbw⟩ := arr_cell (t := 1) (ty := .byte) hR hkd (by omega) rfl
  refine W.bast hx hb e1 (arr_K hk (tys_eq (t := 1) rfl) _ _) (fun q => by cases q) (by rw [arrV_size]; exact hin) rfl rfl hdg fun H1 f1 f2 f3 => ?_
  refine W.nar (kk H1 _ (ast_heap (t := 1) (ty := .byte) hR hkd (by omega) rfl ⟨rfl, rfl⟩ (avI rfl) e1 (hbw (by omega)) f1 f2 f3) (fun z hz => ?_))
  rcases List.mem_append.mp hz with g | g
  · exact hL z g
  · rw [List.mem_singleton.mp g]; exact hbw (by omega)
theorem w_zast (hx : p.tables.exec = Jvm.exec) (hb : c.code = cc) (hk : KN G s) (hR : Rp G h H) (hL : ∀ z ∈ locs, wB G ≤ z.base) {a : Nat} (hkd : (h.1 a).1 = 202) {i x : Int32} (hin : vp_in i (ln h a)) (hdg : decode cc pc = .ok (.bastore, 1))
    (kk : ∀ (H1 : Heap) (locs1 : List Loc), Rp G (sI h i.toNatClampNeg a (vp_nar .boolean x)) H1 → (∀ z ∈ locs1, wB G ≤ z.base) → Wn p l e R s m args below meth c H1 locs1 Q (F0 m (pc + 1) ls rest)) : Wn p l e R s m args below meth c H locs Q (F0 m pc ls (.int x :: .int i :: vr a :: rest)) := by
  obtain ⟨b, rfl, e1, hbw⟩ := arr_cell (t := 2) (ty := .boolean) hR hkd (by omega) rfl
  refine W.zast hx hb e1 (arr_K hk (tys_eq (t := 2) rfl) _ _) (fun q => by cases q) (by rw [arrV_size]; exact hin) rfl rfl hdg fun H1 f1 f2 f3 => ?_
  refine W.nar (kk H1 _ (ast_heap (t := 2) (ty := .boolean) hR hkd (by omega) rfl ⟨rfl, rfl⟩ (avI rfl) e1 (hbw (by omega)) f1 f2 f3) (fun z hz => ?_))
  rcases List.mem_append.mp hz with g | g
  · exact hL z g
  · rw [List.mem_singleton.mp g]; exact hbw (by omega)
theorem w_last (hx : p.tables.exec = Jvm.exec) (hb : c.code = cc) (hk : KN G s) (hR : Rp G h H) (hL : ∀ z ∈ locs, wB G ≤ z.base) {a : Nat} (hkd : (h.1 a).1 = 203) {i : Int32} {x : Int64} (hin : vp_in i (ln h a)) (hdg : decode cc pc = .ok (.lastore, 1))
    (kk : ∀ (H1 : Heap) (locs1 : List Loc), Rp G (sL h i.toNatClampNeg a x) H1 → (∀ z ∈ locs1, wB G ≤ z.base) → Wn p l e R s m args below meth c H1 locs1 Q (F0 m (pc + 1) ls rest)) : Wn p l e R s m args below meth c H locs Q (F0 m pc ls (.long x :: .int i :: vr a :: rest)) := by
  obtain ⟨b, rfl, e1, hbw⟩ := arr_cell (t := 3) (ty := .long) hR hkd (by omega) rfl
  refine W.last hx hb e1 (arr_K hk (tys_eq (t := 3) rfl) _ _) (fun q => by cases q) (by rw [arrV_size]; exact hin) rfl rfl hdg fun H1 f1 f2 f3 => ?_
  refine W.nar (kk H1 _ (ast_heap (t := 3) (ty := .long) (c1 := cL (h.1 (b + 1)) i.toNatClampNeg x) hR hkd (by omega) rfl ⟨rfl, rfl⟩ (fun j => ?_) e1 (hbw (by omega)) f1 f2 f3) (fun z hz => ?_))
  · by_cases e : j = i.toNatClampNeg
    · subst e; simp [fv, cL]
    · rw [if_neg e, fv_cL e]
  · rcases List.mem_append.mp hz with g | g
    · exact hL z g
    · rw [List.mem_singleton.mp g]; exact hbw (by omega)
/-- the null reference into an array of objects -/
theorem w_aastN (hx : p.tables.exec = Jvm.exec) (hb : c.code = cc) (hk : KN G s) (hR : Rp G h H) (hL : ∀ z ∈ locs, wB G ≤ z.base) {a t : Nat} {E : String} (hkd : (h.1 a).1 = 200 + t) (ht : t < 100) (hty : TYS[t]? = some (.object E)) {i : Int32} (hin : vp_in i (ln h a)) (hdg : decode cc pc = .ok (.aastore, 1))
    (kk : ∀ (H1 : Heap) (locs1 : List Loc), Rp G (sR h i.toNatClampNeg a 0) H1 → (∀ z ∈ locs1, wB G ≤ z.base) → Wn p l e R s m args below meth c H1 locs1 Q (F0 m (pc + 1) ls rest)) : Wn p l e R s m args below meth c H locs Q (F0 m pc ls (vr 0 :: .int i :: vr a :: rest)) := by
  have hm : t % 100 = t := Nat.mod_eq_of_lt ht
  obtain ⟨b, rfl, e1, hbw⟩ := arr_cell (t := t) (ty := .object E) hR hkd (by omega) (by rw [hm]; exact hty)
  rw [hm] at e1
  refine va_WaastN (C := E) hx hb e1 (arr_K hk (tys_eq hty) _ _) (fun q => by cases q) (by rw [arrV_size]; exact hin) rfl rfl hdg fun H1 f1 f2 f3 => ?_
  refine W.nar (kk H1 _ (ast_heap (v := .null) hR hkd ht hty ⟨rfl, rfl⟩ (avR rfl) e1 (hbw ht) f1 f2 f3) (fun z hz => ?_))
  rcases List.mem_append.mp hz with g | g
  · exact hL z g
  · rw [List.mem_singleton.mp g]; exact hbw ht
/-- a reference into an array of objects: the value's class can be assigned -/
theorem w_aast0 (hx : p.tables.exec = Jvm.exec) (hb : c.code = cc) (hk : KN G s) (hR : Rp G h H) (hL : ∀ z ∈ locs, wB G ≤ z.base) {a t v : Nat} {ty : FieldType} {kA kE : Class} {comp : ClassId} (hkd : (h.1 a).1 = 200 + t) (ht : t < 100) (hty : TYS[t]? = some ty) (hrf : refK ty = true)
    (k1 : s.vm.classes[wT G t]? = some kA) (k2 : kA.kind = .array comp ty) (k3 : s.vm.classes[comp]? = some kE) {cellV : Cell} {kC : Class} (g1 : H[v]? = some cellV) (g3 : cellV.vm.isStatics = false) (hkC : s.vm.classes[cellV.cls]? = some kC) (hasg : s.vm.assignable cellV.cls comp = true)
    {i : Int32} (hin : vp_in i (ln h a)) (hdg : decode cc pc = .ok (.aastore, 1))
    (kk : ∀ (H1 : Heap) (locs1 : List Loc), Rp G (sR h i.toNatClampNeg a (v + 1)) H1 → (∀ z ∈ locs1, wB G ≤ z.base) → Wn p l e R s m args below meth c H1 locs1 Q (F0 m (pc + 1) ls rest)) : Wn p l e R s m args below meth c H locs Q (F0 m pc ls (vr (v + 1) :: .int i :: vr a :: rest)) := by
  have hm : t % 100 = t := Nat.mod_eq_of_lt ht
  obtain ⟨b, rfl, e1, hbw⟩ := arr_cell (t := t) (ty := ty) hR hkd (by omega) (by rw [hm]; exact hty)
  rw [hm] at e1
  have hlt : i.toNatClampNeg < ln h (b + 1) := Nat.not_le.mp fun q => hin (Or.inr q)
  have h0 : ¬ i < 0 := fun q => hin (Or.inl q)
  refine W.aast hx hb e1 (fun q h => by cases h) (fun h => by cases h) k1 k2 (by cases ty <;> first | rfl | cases hrf) k3 ⟨h0, by rw [arrV_size]; exact hlt⟩ g1 (fun q h => by rw [h] at g3; cases g3) hkC hasg rfl rfl hdg fun H1 f1 f2 f3 => ?_
  refine W.nar (kk H1 _ (ast_heap (v := .ref v) hR hkd ht hty ⟨rfl, rfl⟩ (avR hrf) e1 (hbw ht) f1 f2 f3) (fun z hz => ?_))
  rcases List.mem_append.mp hz with g | g
  · exact hL z g
  · rw [List.mem_singleton.mp g]; exact hbw ht
theorem cl_ob : ∀ i, i < 29 → ∃ C, (CL[i]?).map (·.1) = some C ∧ Cond.castable C "java/lang/Object" ∈ lw_tbl := CL_ob
theorem obj_any (hk : KN G s) (hR : Rp G h H) {v : Nat} (hv : (h.1 (v + 1)).1 ≠ 0 ∧ (h.1 (v + 1)).1 < 30) : ∃ (cellV : Cell) (kC : Class), H[v]? = some cellV ∧ cellV.vm.isStatics = false ∧ s.vm.classes[cellV.cls]? = some kC ∧ ∀ comp : ClassId, s.vm.findClass "java/lang/Object" = some comp → s.vm.assignable cellV.cls comp = true := by
  obtain ⟨i, hi⟩ : ∃ i, (h.1 (v + 1)).1 = i + 1 := ⟨(h.1 (v + 1)).1 - 1, by omega⟩
  obtain ⟨b, hb, ho, -⟩ := hR.obj hi (by omega)
  have hbv : b = v := by omega
  subst hbv
  obtain ⟨C, hC, hca⟩ := cl_ob i (by omega)
  obtain ⟨cell, g1, g2, g3⟩ := cls_of hk hC ho
  obtain ⟨kC, hkC, -⟩ := Vm.findClass_spec g3
  exact ⟨cell, kC, g1, g2, hkC, fun comp hcomp => vb_asgC (hk.ca hca) comp _ hcomp g3⟩
/-- any object of ours into an Object[] -/
theorem w_aastO (hx : p.tables.exec = Jvm.exec) (hb : c.code = cc) (hk : KN G s) (hR : Rp G h H) (hL : ∀ z ∈ locs, wB G ≤ z.base) {a v : Nat} (hkd : (h.1 a).1 = 204) (hv : v = 0 ∨ ((h.1 v).1 ≠ 0 ∧ (h.1 v).1 < 30)) {i : Int32} (hin : vp_in i (ln h a)) (hdg : decode cc pc = .ok (.aastore, 1))
    (kk : ∀ (H1 : Heap) (locs1 : List Loc), Rp G (sR h i.toNatClampNeg a v) H1 → (∀ z ∈ locs1, wB G ≤ z.base) → Wn p l e R s m args below meth c H1 locs1 Q (F0 m (pc + 1) ls rest)) : Wn p l e R s m args below meth c H locs Q (F0 m pc ls (vr v :: .int i :: vr a :: rest)) := by
  cases v with
  | zero => exact w_aastN (t := 4) hx hb hk hR hL hkd (by omega) rfl hin hdg kk
  | succ v =>
    obtain ⟨cellV, kC, g1, g2, g3, g4⟩ := obj_any hk hR (v := v) (by omega)
    obtain ⟨kA, comp, k1, k2, k3, -⟩ := (hk.k.2 4 _ (tys_eq (t := 4) rfl)).2
    obtain ⟨kE, hkE, -⟩ := Vm.findClass_spec k3
    exact w_aast0 (t := 4) hx hb hk hR hL hkd (by omega) rfl rfl k1 k2 hkE g1 g2 g3 (g4 _ k3) hin hdg kk
/-- a table into a Table[] -/
theorem w_aastT (hx : p.tables.exec = Jvm.exec) (hb : c.code = cc) (hk : KN G s) (hR : Rp G h H) (hL : ∀ z ∈ locs, wB G ≤ z.base) {a v : Nat} (hkd : (h.1 a).1 = 205) (hv : (h.1 v).1 = 2) {i : Int32} (hin : vp_in i (ln h a)) (hdg : decode cc pc = .ok (.aastore, 1))
    (kk : ∀ (H1 : Heap) (locs1 : List Loc), Rp G (sR h i.toNatClampNeg a v) H1 → (∀ z ∈ locs1, wB G ≤ z.base) → Wn p l e R s m args below meth c H1 locs1 Q (F0 m (pc + 1) ls rest)) : Wn p l e R s m args below meth c H locs Q (F0 m pc ls (vr v :: .int i :: vr a :: rest)) := by
  obtain ⟨b, rfl, ho, -⟩ := hR.obj (i := 1) hv (by omega)
  obtain ⟨cell, g1, g2, g3⟩ := cls_of (C := "HintTeam$Table") hk rfl ho
  obtain ⟨kC, hkC, -⟩ := Vm.findClass_spec g3
  obtain ⟨kA, comp, k1, k2, k3, -⟩ := (hk.k.2 5 _ (tys_eq (t := 5) rfl)).2
  obtain ⟨kE, hkE, -⟩ := Vm.findClass_spec k3
  refine w_aast0 (t := 5) hx hb hk hR hL hkd (by omega) rfl rfl k1 k2 hkE g1 g2 hkC ?_ hin hdg kk
  cases k3.symm.trans g3
  exact va_asg _ _
/-- an int[] into an int[][] -/
theorem w_aastI (hx : p.tables.exec = Jvm.exec) (hb : c.code = cc) (hk : KN G s) (hR : Rp G h H) (hL : ∀ z ∈ locs, wB G ≤ z.base) {a v : Nat} (hkd : (h.1 a).1 = 206) (hv : (h.1 v).1 = 200) {i : Int32} (hin : vp_in i (ln h a)) (hdg : decode cc pc = .ok (.aastore, 1))
    (kk : ∀ (H1 : Heap) (locs1 : List Loc), Rp G (sR h i.toNatClampNeg a v) H1 → (∀ z ∈ locs1, wB G ≤ z.base) → Wn p l e R s m args below meth c H1 locs1 Q (F0 m (pc + 1) ls rest)) : Wn p l e R s m args below meth c H locs Q (F0 m pc ls (vr v :: .int i :: vr a :: rest)) := by
  obtain ⟨b, rfl, e1, -⟩ := arr_cell (t := 0) (ty := .int) hR hv (by omega) rfl
  obtain ⟨k6, k6e, k6k⟩ := hk.k6
  obtain ⟨-, kC, hkC, -⟩ := arr_K hk (tys_eq (t := 0) rfl) 0 (fun _ => .null)
  exact w_aast0 (t := 6) hx hb hk hR hL hkd (by omega) rfl rfl k6e k6k hkC e1 rfl hkC (va_asg _ _) hin hdg kk
/-! new arrays -/
theorem arr_new (hR : Rp G h H) {t N : Nat} {ty : FieldType} {H1 : Heap} (ht : t < 100) (hty : TYS[t]? = some ty) (hd : ∀ j : Nat, fv ty j (vc0 (200 + t) N) = defaultValue ty) (e1 : H1[H.size]? = some (arrV (wT G t) N (fun _ => defaultValue ty))) (z1 : H1.size = H.size + 1) (o1 : ∀ q, q < H.size → H1[q]? = H[q]?)
    (hmC : h.2.1 ≤ wC G) (hmS : h.2.2 + N ≤ wS G) : Rp G (al h (200 + t) N N) H1 := by
  have hm : t % 100 = t := Nat.mod_eq_of_lt ht
  refine hR.al z1 (by rw [tsl_new z1 e1 o1, arrV_size]) o1 hmC hmS (fun i hi _ => by omega) (fun t' ht' _ => ?_)
  have : t' = t := by omega
  subst this
  refine ⟨ty, by rw [hm]; exact hty, ?_⟩
  rw [hm, e1]
  congr 2
  funext j
  exact (hd j).symm
theorem w_newarr (hx : p.tables.exec = Jvm.exec) (hb : c.code = cc) (hk : KN G s) (hR : Rp G h H) (hRC : wC G ≤ R.cells + s.heap.size) (hRS : wS G ≤ R.slots + tsl s.heap) {atype : ArrayType} {t : Nat} (ht : t < 4) (hty : TYS[t]? = some (newarray.typeOf atype)) (harr : Cond.arrayClass (newarray.typeOf atype) ∈ lw_all) {n : Int32} (hn : ¬ n < 0) (hbytes : n.toNatClampNeg ≤ 67108864)
    (hmC : h.2.1 ≤ wC G) (hmS : h.2.2 + n.toNatClampNeg ≤ wS G) (hdg : decode cc pc = .ok (.newarray atype, 2))
    (kk : ∀ (H1 : Heap), Rp G (al h (200 + t) n.toNatClampNeg n.toNatClampNeg) H1 → Wn p l e R s m args below meth c H1 locs Q (F0 m (pc + 2) ls (vr h.2.1 :: rest))) : Wn p l e R s m args below meth c H locs Q (F0 m pc ls (.int n :: rest)) := by
  have r1 := hR.1
  have r2 := hR.2.1
  have hcb : n.toNatClampNeg * componentBytes (newarray.typeOf atype) ≤ 536870912 := by
    cases atype <;> simp only [newarray.typeOf, componentBytes] <;> omega
  refine W.sz fun hz1 hz2 => ?_
  refine va_newaK hx hb (hk.w harr args) rfl hdg rfl hn rfl hcb (by omega) (by omega) rfl fun H1 cA e1 z1 o1 hAr hNm => ?_
  have hcA : cA = wT G t := by
    have h2 := (hk.k.2 t _ (tys_eq hty)).2
    have h3 : s.vm.findClass ("[" ++ (newarray.typeOf atype).toString) = some (wT G t) := by cases atype <;> exact h2
    exact Option.some.inj (hNm.symm.trans h3)
  subst hcA
  have hv : vr h.2.1 = .ref H.size := by rw [← r1]; rfl
  rw [← hv]
  refine W.nar (kk H1 (arr_new hR (by omega) hty (fun j => ?_) e1 z1 o1 hmC hmS))
  cases atype <;> first | rfl | (exfalso; match t, ht, hty with | 0, _, hty => cases hty | 1, _, hty => cases hty | 2, _, hty => cases hty | 3, _, hty => cases hty)
theorem push_new {cA : ClassId} {N : Nat} {x : Value} {H1 : Heap} (hH1 : H.push ({ cls := cA, slots := Array.replicate N x, vm := .none } : Cell) = H1) : H1[H.size]? = some (arrV cA N (fun _ => x)) ∧ H1.size = H.size + 1 ∧ ∀ q, q < H.size → H1[q]? = H[q]? := by
  refine ⟨by rw [← hH1, Array.getElem?_push_size, ← arrV_new], by rw [← hH1, Array.size_push], fun q hq => by rw [← hH1, Array.getElem?_push, if_neg (Nat.ne_of_lt hq)]⟩
theorem w_newq (hx : p.tables.exec = Jvm.exec) (hb : c.code = cc) (hown : s.vm.findClass own = some m.cls) (hk : KN G s) (hR : Rp G h H) (hRC : wC G ≤ R.cells + s.heap.size) (hRS : wS G ≤ R.slots + tsl s.heap) {C : String} {index t : Nat} (ht : t < 100) (hty : TYS[t]? = some (.object C)) (hcl : Cond.classLink own index C ∈ lw_all) (hov : Cond.arrayOver (.object C) ∈ lw_tbl) {n : Int32} (hn : ¬ n < 0) (hbytes : n.toNatClampNeg ≤ 67108864)
    (hmC : h.2.1 ≤ wC G) (hmS : h.2.2 + n.toNatClampNeg ≤ wS G) (hdg : decode cc pc = .ok (.anewarray index, 3))
    (kk : ∀ (H1 : Heap), Rp G (al h (200 + t) n.toNatClampNeg n.toNatClampNeg) H1 → Wn p l e R s m args below meth c H1 locs Q (F0 m (pc + 3) ls (vr h.2.1 :: rest))) : Wn p l e R s m args below meth c H locs Q (F0 m pc ls (.int n :: rest)) := by
  have r1 := hR.1
  have r2 := hR.2.1
  refine W.sz fun hz1 hz2 => ?_
  refine W.anew hx hb hown (hk.w hcl args) (va_AO.use (hk.ao hov)) rfl hdg rfl hn (by omega) (by omega) (by omega) fun cA kA comp f1 f2 f3 f4 => ?_
  have hcA : cA = wT G t := by
    obtain ⟨_, _, _, _, _, h2⟩ := (hk.k.2 t _ (tys_eq hty)).2
    exact Option.some.inj (f1.symm.trans h2)
  subst hcA
  generalize hH1 : H.push ({ cls := wT G t, slots := Array.replicate n.toNatClampNeg .null, vm := .none } : Cell) = H1
  obtain ⟨e1, z1, o1⟩ := push_new hH1
  have hv : vr h.2.1 = .ref H.size := by rw [← r1]; rfl
  rw [← hv]
  exact W.nar (kk H1 (arr_new hR ht hty (fun j => rfl) e1 z1 o1 hmC hmS))
/-- new int[n][] -/
theorem w_newqI (hx : p.tables.exec = Jvm.exec) (hb : c.code = cc) (hown : s.vm.findClass own = some m.cls) (hk : KN G s) (hR : Rp G h H) (hRC : wC G ≤ R.cells + s.heap.size) (hRS : wS G ≤ R.slots + tsl s.heap) {index : Nat} (hcl : Cond.classLink own index "[I" ∈ lw_all) {n : Int32} (hn : ¬ n < 0) (hbytes : n.toNatClampNeg ≤ 67108864)
    (hmC : h.2.1 ≤ wC G) (hmS : h.2.2 + n.toNatClampNeg ≤ wS G) (hdg : decode cc pc = .ok (.anewarray index, 3))
    (kk : ∀ (H1 : Heap), Rp G (al h 206 n.toNatClampNeg n.toNatClampNeg) H1 → Wn p l e R s m args below meth c H1 locs Q (F0 m (pc + 3) ls (vr h.2.1 :: rest))) : Wn p l e R s m args below meth c H locs Q (F0 m pc ls (.int n :: rest)) := by
  have r1 := hR.1
  have r2 := hR.2.1
  refine W.sz fun hz1 hz2 => ?_
  refine W.anewA (t := .int) hx hb hown (show (Cond.classLink own index "[I").before args s = true from hk.w hcl args) hk.aoI rfl hdg rfl hn (by omega) (by omega) (by omega) fun cA kA comp f1 f2 f3 f4 => ?_
  have hcA : cA = wT G 6 := by
    have h2 : s.vm.findClass ("[" ++ (FieldType.array .int).toString) = some (wT G 6) := (hk.k.2 6 _ (tys_eq (t := 6) rfl)).2
    exact Option.some.inj (f1.symm.trans h2)
  subst hcA
  generalize hH1 : H.push ({ cls := wT G 6, slots := Array.replicate n.toNatClampNeg .null, vm := .none } : Cell) = H1
  obtain ⟨e1, z1, o1⟩ := push_new hH1
  have hv : vr h.2.1 = .ref H.size := by rw [← r1]; rfl
  rw [← hv]
  exact W.nar (kk H1 (arr_new (t := 6) hR (by omega) rfl (fun j => rfl) e1 z1 o1 hmC hmS))
/-- an array of N new arrays of M places each -/
def mal (h : VH) (tO tI N M : Nat) : VH := (fun b => if b = h.2.1 then (tO, fun _ => 0, fun _ => 0, (fun j => if j < N then h.2.1 + 1 + j else 0), N) else if h.2.1 < b ∧ b < h.2.1 + 1 + N then vc0 tI M else h.1 b, h.2.1 + 1 + N, h.2.2 + (N + N * M))
theorem tsl_app {H1 : Heap} (hz : H.size ≤ H1.size) (ho : ∀ q : Nat, q < H.size → H1[q]? = H[q]?) : tsl H1 = tsl H + ((H1.toList.drop H.size).map fun c => c.slots.size).sum := by
  have e : H1.toList = H.toList ++ H1.toList.drop H.size := by
    apply List.ext_getElem?
    intro i
    rw [Array.getElem?_toList]
    by_cases hi : i < H.size
    · rw [ho i hi, List.getElem?_append_left (by rw [Array.length_toList]; exact hi), Array.getElem?_toList]
    · rw [List.getElem?_append_right (by rw [Array.length_toList]; omega), Array.length_toList, List.getElem?_drop, Array.getElem?_toList]
      congr 1
      omega
  rw [tsl_list, tsl_list H]
  conv => lhs; rw [e]
  rw [List.map_append, List.sum_append]
theorem w_multi (hx : p.tables.exec = Jvm.exec) (hb : c.code = cc) (hown : s.vm.findClass own = some m.cls) (hk : KN G s) (hR : Rp G h H) (hRC : wC G ≤ R.cells + s.heap.size) (hRS : wS G ≤ R.slots + tsl s.heap) (hsB : wB G ≤ s.heap.size) {index tO tI : Nat} {ty : FieldType} (htO : tO < 100) (htI : tI < 100) (htyO : TYS[tO]? = some (.array ty)) (htyI : TYS[tI]? = some ty)
    (hcl : Cond.classLink own index ("[" ++ (FieldType.array ty).toString) ∈ lw_all) (hover : (Cond.arrayOver (.array ty)).before args s = true) (harr : Cond.arrayClass ty ∈ lw_all) (hcb : componentBytes ty ≤ 8) (hdf : fits ty (defaultValue ty) = true) (hdd : (defaultValue ty).isDefault = true) (hd0 : ∀ (j M : Nat), fv ty j (vc0 (200 + tI) M) = defaultValue ty)
    (hnm : s.vm.findClass (FieldType.array ty).toString = some (wT G tI))
    {n k : Int32} (hn : ¬ n < 0) (hk0 : ¬ k < 0) (hb1 : n.toNatClampNeg ≤ 1000000) (hb2 : k.toNatClampNeg ≤ 1000000) (hmC : h.2.1 + n.toNatClampNeg ≤ wC G) (hmS : h.2.2 + (n.toNatClampNeg + n.toNatClampNeg * k.toNatClampNeg) ≤ wS G) (hdg : decode cc pc = .ok (.multianewarray index 2, 4))
    (kk : ∀ (H1 : Heap), Rp G (mal h (200 + tO) (200 + tI) n.toNatClampNeg k.toNatClampNeg) H1 → Wn p l e R s m args below meth c H1 locs Q (F0 m (pc + 4) ls (vr h.2.1 :: rest))) : Wn p l e R s m args below meth c H locs Q (F0 m pc ls (.int k :: .int n :: rest)) := by
  obtain ⟨r1, r2, r3, r4, r5, r6, r7, r8, r9, r10⟩ := id hR
  intro T hT X
  obtain ⟨hz1, hz2⟩ := stand_sz X
  subst hT
  generalize hN : n.toNatClampNeg = N at *
  generalize hM : k.toNatClampNeg = M at *
  have hMb : M * componentBytes ty ≤ 536870912 := Nat.le_trans (Nat.mul_le_mul hb2 hcb) (by decide)
  obtain ⟨vm₁, cA, comp, hW, hfA, hfC, hO, hI, X1, step⟩ := X.multianewarray2F hx hown (hk.w hcl args) hover (hk.w harr args) (g := F0 m pc ls (.int k :: .int n :: rest)) rfl (by rw [hb]; exact hdg) (n := n) (k := k) (rest := rest) rfl hn hk0 (by rw [hN]; omega) (by rw [hM]; exact hMb) (by rw [hM]; omega) hdf hdd (by rw [hN]; omega) (by rw [hN, hM]; omega)
  rw [hN, hM] at X1 step
  have hcA : cA = wT G tO := by
    have h2 : s.vm.findClass ("[" ++ (FieldType.array ty).toString) = some (wT G tO) := (hk.k.2 tO _ (tys_eq htyO)).2
    exact Option.some.inj (hfA.symm.trans h2)
  have hco : comp = wT G tI := Option.some.inj (hfC.symm.trans hnm)
  subst hcA
  subst hco
  obtain ⟨f1, f2, -⟩ := Jvm.Free.Multi.fill_facts (T.setVm vm₁) (wT G tO) (wT G tI) N M (defaultValue ty) N
  have f3 := fun a ha => Jvm.Free.Multi.fill_old (T.setVm vm₁) (wT G tO) (wT G tI) N M (defaultValue ty) (a := a) ha N
  have f4 := Jvm.Free.Multi.fill_inner (T.setVm vm₁) (wT G tO) (wT G tI) N M (defaultValue ty) N
  generalize hF : Jvm.Free.Multi.fill (T.setVm vm₁) (wT G tO) (wT G tI) N M (defaultValue ty) N = F at *
  have g1 : F.heap.size = T.heap.size + 1 + N := f1
  have g3 : ∀ q, q < T.heap.size → F.heap[q]? = T.heap[q]? := f3
  have g2 : F.heap[T.heap.size]? = some (Jvm.Free.Multi.outerC (wT G tO) N T.heap.size N) := f2
  have g4 : ∀ j, j < N → F.heap[T.heap.size + 1 + j]? = some (Jvm.Free.Multi.innerC (wT G tI) M (defaultValue ty)) := fun j hj => f4 j hj
  obtain ⟨o1, o2, o3⟩ := Jvm.Free.Multi.outerC_facts (wT G tO) N T.heap.size N
  have hsl : tsl F.heap = tsl T.heap + (N + N * M) := by
    rw [tsl_app (by omega) g3]
    have e : (F.heap.toList.drop T.heap.size).map (fun c => c.slots.size) = N :: List.replicate N M := by
      apply List.ext_getElem?
      intro i
      rw [List.getElem?_map, List.getElem?_drop, Array.getElem?_toList]
      cases i with
      | zero => rw [Nat.add_zero, g2]; simp [o3]
      | succ i =>
        by_cases hi : i < N
        · rw [show T.heap.size + (i + 1) = T.heap.size + 1 + i by omega, g4 i hi]
          simp [Jvm.Free.Multi.innerC, hi]
        · rw [Array.getElem?_eq_none (by omega)]
          simp [hi]
    rw [e]
    simp
  have hv : vr h.2.1 = .ref T.heap.size := by rw [← r1]; rfl
  rw [← hv] at step
  have key : Rp G (mal h (200 + tO) (200 + tI) N M) F.heap := by
    refine ⟨by rw [g1]; show T.heap.size + 1 + N + 1 = h.2.1 + 1 + N; omega, by rw [hsl]; show tsl T.heap + (N + N * M) = h.2.2 + (N + N * M); omega, by omega, by omega, by omega, fun q hq => by rw [g3 q (by omega)]; exact r6 q hq, ?_, fun a ha => ?_, fun a i e hi => ?_, fun a t e hi => ?_⟩
    · show (if (0 : Nat) = h.2.1 then _ else if h.2.1 < 0 ∧ _ then _ else h.1 0).1 = 0
      rw [if_neg (by omega), if_neg (by omega)]
      exact r7
    · show (if a + 1 = h.2.1 then _ else if h.2.1 < a + 1 ∧ a + 1 < h.2.1 + 1 + N then _ else h.1 (a + 1)).1 = 0
      rw [if_neg (by omega), if_neg (by omega)]
      exact r8 a (by omega)
    · have e' : (if a + 1 = h.2.1 then (200 + tO, fun _ => 0, fun _ => 0, (fun j => if j < N then h.2.1 + 1 + j else 0), N) else if h.2.1 < a + 1 ∧ a + 1 < h.2.1 + 1 + N then vc0 (200 + tI) M else h.1 (a + 1) : VC).1 = i + 1 := e
      show objAt G (if a + 1 = h.2.1 then (200 + tO, fun _ => 0, fun _ => 0, (fun j => if j < N then h.2.1 + 1 + j else 0), N) else if h.2.1 < a + 1 ∧ a + 1 < h.2.1 + 1 + N then vc0 (200 + tI) M else h.1 (a + 1) : VC) i a F.heap ∧ _
      by_cases q1 : a + 1 = h.2.1
      · rw [if_pos q1] at e'
        have : 200 + tO = i + 1 := e'
        omega
      · by_cases q2 : h.2.1 < a + 1 ∧ a + 1 < h.2.1 + 1 + N
        · rw [if_neg q1, if_pos q2] at e'
          have : 200 + tI = i + 1 := e'
          omega
        · rw [if_neg q1, if_neg q2] at e' ⊢
          obtain ⟨k1, k2⟩ := r9 a i e' hi
          exact ⟨objAt_kept k1 (g3 a (objAt_lt k1)), k2⟩
    · have e' : (if a + 1 = h.2.1 then (200 + tO, fun _ => 0, fun _ => 0, (fun j => if j < N then h.2.1 + 1 + j else 0), N) else if h.2.1 < a + 1 ∧ a + 1 < h.2.1 + 1 + N then vc0 (200 + tI) M else h.1 (a + 1) : VC).1 = 200 + t := e
      show arrAt G (if a + 1 = h.2.1 then (200 + tO, fun _ => 0, fun _ => 0, (fun j => if j < N then h.2.1 + 1 + j else 0), N) else if h.2.1 < a + 1 ∧ a + 1 < h.2.1 + 1 + N then vc0 (200 + tI) M else h.1 (a + 1) : VC) (t % 100) a F.heap ∧ _
      by_cases q1 : a + 1 = h.2.1
      · rw [if_pos q1] at e' ⊢
        have ht : t = tO := by have : 200 + tO = 200 + t := e'; omega
        subst ht
        have ha : a = T.heap.size := by omega
        subst ha
        refine ⟨⟨.array ty, by rw [Nat.mod_eq_of_lt htO]; exact htyO, ?_⟩, fun _ => r5⟩
        rw [Nat.mod_eq_of_lt htO, g2]
        congr 1
        have hsl2 := Jvm.Free.Multi.outerC_slot (wT G t) N T.heap.size N
        have hoc : Jvm.Free.Multi.outerC (wT G t) N T.heap.size N = { cls := wT G t, slots := (Jvm.Free.Multi.outerC (wT G t) N T.heap.size N).slots, vm := .none } := outer_eq _ _ _ _
        rw [hoc]
        show _ = arrV _ _ _
        unfold arrV
        congr 1
        apply Array.ext
        · rw [o3]; simp
        · intro j h1 h2
          have h3 := hsl2 j (by rw [o3] at h1; exact h1)
          rw [Array.getElem?_eq_getElem h1, if_pos (by rw [o3] at h1; exact h1)] at h3
          rw [Option.some.inj h3]
          simp only [Array.getElem_ofFn]
          show _ = vr (if j < N then h.2.1 + 1 + j else 0)
          rw [if_pos (by rw [o3] at h1; exact h1)]
          rw [show h.2.1 + 1 + j = (T.heap.size + 1 + j) + 1 by omega]
          rfl
      · by_cases q2 : h.2.1 < a + 1 ∧ a + 1 < h.2.1 + 1 + N
        · rw [if_neg q1, if_pos q2] at e' ⊢
          have ht : t = tI := by have : 200 + tI = 200 + t := e'; omega
          subst ht
          refine ⟨⟨ty, by rw [Nat.mod_eq_of_lt htI]; exact htyI, ?_⟩, fun _ => by omega⟩
          rw [Nat.mod_eq_of_lt htI]
          obtain ⟨j, hj, rfl⟩ : ∃ j, j < N ∧ a = T.heap.size + 1 + j := ⟨a - (T.heap.size + 1), by omega, by omega⟩
          rw [g4 j hj]
          congr 1
          show ({ cls := wT G t, slots := Array.replicate M (defaultValue ty), vm := .none } : Cell) = _
          rw [arrV_new]
          congr 1
          funext i
          exact (hd0 i M).symm
        · rw [if_neg q1, if_neg q2] at e' ⊢
          obtain ⟨k1, k2⟩ := r10 a t e' hi
          exact ⟨arrAt_kept k1 (g3 a (arrAt_lt k1)), k2⟩
  obtain ⟨t, a1, b1⟩ := W.nar (kk F.heap key) F rfl X1
  exact ⟨t, step t a1, b1⟩
end ROWS
set_option maxRecDepth 100000 in
theorem clk_X1 : CLOK 0 RX1 TX1 11 FX1 := ⟨rfl, rfl, in_X1, by decide +kernel, by decide +kernel, by decide +kernel⟩
set_option maxRecDepth 100000 in
theorem clk_X2 : CLOK 1 RX2 TX2 13 FX2 := ⟨rfl, rfl, in_X2, by decide +kernel, by decide +kernel, by decide +kernel⟩
set_option maxRecDepth 100000 in
theorem clk_X3 : CLOK 2 RX3 TX3 10 FX3 := ⟨rfl, rfl, in_X3, by decide +kernel, by decide +kernel, by decide +kernel⟩
set_option maxRecDepth 100000 in
theorem clk_J2 : CLOK 3 RJ2 TJ2 3 FJ2 := ⟨rfl, rfl, in_J2, by decide +kernel, by decide +kernel, by decide +kernel⟩
set_option maxRecDepth 100000 in
theorem clk_J4 : CLOK 4 RJ4 TJ4 9 FJ4 := ⟨rfl, rfl, in_J4, by decide +kernel, by decide +kernel, by decide +kernel⟩
set_option maxRecDepth 100000 in
theorem clk_J10 : CLOK 5 RJ10 TJ10 4 FJ10 := ⟨rfl, rfl, in_J10, by decide +kernel, by decide +kernel, by decide +kernel⟩
set_option maxRecDepth 100000 in
theorem clk_J11 : CLOK 6 RJ11 TJ11 4 FJ11 := ⟨rfl, rfl, in_J11, by decide +kernel, by decide +kernel, by decide +kernel⟩
set_option maxRecDepth 100000 in
theorem clk_J19 : CLOK 7 RJ19 TJ19 1 FJ19 := ⟨rfl, rfl, in_J19, by decide +kernel, by decide +kernel, by decide +kernel⟩
set_option maxRecDepth 100000 in
theorem clk_J21 : CLOK 8 RJ21 TJ21 4 FJ21 := ⟨rfl, rfl, in_J21, by decide +kernel, by decide +kernel, by decide +kernel⟩
set_option maxRecDepth 100000 in
theorem clk_J22 : CLOK 9 RJ22 TJ22 3 FJ22 := ⟨rfl, rfl, in_J22, by decide +kernel, by decide +kernel, by decide +kernel⟩
set_option maxRecDepth 100000 in
theorem clk_J23 : CLOK 10 RJ23 TJ23 3 FJ23 := ⟨rfl, rfl, in_J23, by decide +kernel, by decide +kernel, by decide +kernel⟩
theorem in_UX5 : ∀ w ∈ u_ws RX5 UX5 1, w ∈ lw_all := lw_in _ [820] (by decide +kernel) (by decide +kernel)
set_option maxRecDepth 100000 in
theorem clk_X5 : CLOK 11 RX5 UX5 1 FX5 := ⟨rfl, rfl, in_UX5, by decide +kernel, by decide +kernel, by decide +kernel⟩
set_option maxRecDepth 100000 in
theorem clk_X6 : CLOK 12 RX6 TX6 7 FX6 := ⟨rfl, rfl, in_X6, by decide +kernel, by decide +kernel, by decide +kernel⟩
set_option maxRecDepth 100000 in
theorem clk_X7 : CLOK 13 RX7 TX7 31 FX7 := ⟨rfl, rfl, in_X7, by decide +kernel, by decide +kernel, by decide +kernel⟩
set_option maxRecDepth 100000 in
theorem clk_X8 : CLOK 14 RX8 TX8 6 FX8 := ⟨rfl, rfl, in_X8, by decide +kernel, by decide +kernel, by decide +kernel⟩
set_option maxRecDepth 100000 in
theorem clk_X9 : CLOK 15 RX9 TX9 8 FX9 := ⟨rfl, rfl, in_X9, by decide +kernel, by decide +kernel, by decide +kernel⟩
set_option maxRecDepth 100000 in
theorem clk_X10 : CLOK 16 RX10 TX10 3 FX10 := ⟨rfl, rfl, in_X10, by decide +kernel, by decide +kernel, by decide +kernel⟩
set_option maxRecDepth 100000 in
theorem clk_J25 : CLOK 17 RJ25 TJ25 3 FJ25 := ⟨rfl, rfl, in_J25, by decide +kernel, by decide +kernel, by decide +kernel⟩
set_option maxRecDepth 100000 in
theorem clk_J28 : CLOK 18 RJ28 TJ28 4 FJ28 := ⟨rfl, rfl, in_J28, by decide +kernel, by decide +kernel, by decide +kernel⟩
set_option maxRecDepth 100000 in
theorem clk_J31 : CLOK 19 RJ31 TJ31 5 FJ31 := ⟨rfl, rfl, in_J31, by decide +kernel, by decide +kernel, by decide +kernel⟩
theorem in_UX11 : ∀ w ∈ u_ws RX11 UX11 4, w ∈ lw_all := lw_in _ [1580, 1582, 1584, 1586] (by decide +kernel) (by decide +kernel)
set_option maxRecDepth 100000 in
theorem clk_X11 : CLOK 20 RX11 UX11 4 FX11 := ⟨rfl, rfl, in_UX11, by decide +kernel, by decide +kernel, by decide +kernel⟩
set_option maxRecDepth 100000 in
theorem clk_J35 : CLOK 21 RJ35 TJ35 6 FJ35 := ⟨rfl, rfl, in_J35, by decide +kernel, by decide +kernel, by decide +kernel⟩
set_option maxRecDepth 100000 in
theorem clk_X12 : CLOK 22 RX12 TX12 4 FX12 := ⟨rfl, rfl, in_X12, by decide +kernel, by decide +kernel, by decide +kernel⟩
theorem in_UX13 : ∀ w ∈ u_ws RX13 UX13 3, w ∈ lw_all := lw_in _ [2328, 2330, 2332] (by decide +kernel) (by decide +kernel)
set_option maxRecDepth 100000 in
theorem clk_X13 : CLOK 23 RX13 UX13 3 FX13 := ⟨rfl, rfl, in_UX13, by decide +kernel, by decide +kernel, by decide +kernel⟩
set_option maxRecDepth 100000 in
theorem clk_X14 : CLOK 24 RX14 TX14 4 FX14 := ⟨rfl, rfl, in_X14, by decide +kernel, by decide +kernel, by decide +kernel⟩
theorem in_UJ27 : ∀ w ∈ u_ws RJ27 UJ27 0, w ∈ lw_all := lw_in _ [] (by decide +kernel) (by decide +kernel)
set_option maxRecDepth 100000 in
theorem clk_J27 : CLOK 25 RJ27 UJ27 0 FJ27 := ⟨rfl, rfl, in_UJ27, by decide +kernel, by decide +kernel, by decide +kernel⟩
theorem in_UJ8 : ∀ w ∈ u_ws RJ8 UJ8 0, w ∈ lw_all := lw_in _ [] (by decide +kernel) (by decide +kernel)
set_option maxRecDepth 100000 in
theorem clk_J8 : CLOK 26 RJ8 UJ8 0 FJ8 := ⟨rfl, rfl, in_UJ8, by decide +kernel, by decide +kernel, by decide +kernel⟩
set_option maxRecDepth 100000 in
theorem clr_J11 : CLOK 27 RJ11 TJ11 4 FJ11 := ⟨rfl, rfl, in_J11, by decide +kernel, by decide +kernel, by decide +kernel⟩
set_option maxRecDepth 100000 in
theorem clr_J19 : CLOK 28 RJ19 TJ19 1 FJ19 := ⟨rfl, rfl, in_J19, by decide +kernel, by decide +kernel, by decide +kernel⟩
