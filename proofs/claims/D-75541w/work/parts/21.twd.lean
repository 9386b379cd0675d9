set_option maxRecDepth 100000
section TWN
variable {G : Wd} {l : Launch} {d : Nat} {post : Option Value → VH → Prop} {xp : Nat → VH → Prop} {h0 h : VH} {m : Nat} {S : Nat → Row} {L : Nat → Int → Int64} {Q : Int → Pos} {n : Int}
/-- the position that is made -/
def mdP (S : Nat → Row) (L : Nat → Int → Int64) : Pos := mkP (L 12) (S 13) (S 0 545) (S 0 546) (S 0 547) (S 0 548)
def cdT (p : Pos) : Nat → Int64
  | 0 => jL (pkV p)
  | k + 1 => cdT p k * jL 1000003 + pH p k
def hshT (p : Pos) : Int := ((Int64.toInt32 (jlushr (cdT p 4 * jL 25214903917) (jI 40))) &&& jI 16383).toInt
theorem and_bd {x : Int32} : 0 ≤ (x &&& jI 16383).toInt ∧ (x &&& jI 16383).toInt < 16384 := by
  have e : ((x &&& jI 16383).toBitVec.toNat) = x.toBitVec.toNat % 2 ^ 14 := by
    show (x.toBitVec &&& 16383#32).toNat = _
    rw [BitVec.toNat_and, show (16383#32 : BitVec 32).toNat = 2 ^ 14 - 1 by decide, Nat.and_two_pow_sub_one_eq_mod]
  have h1 : (x &&& jI 16383).toInt = ((x &&& jI 16383).toBitVec.toNat : Int) := by
    show (x &&& jI 16383).toBitVec.toInt = _
    rw [BitVec.toInt_eq_toNat_of_lt (by omega)]
  omega
theorem hshT_bd {p : Pos} : 0 ≤ hshT p ∧ hshT p < 16384 := and_bd
/-- the table of positions -/
def XS (r : Row) (S : Nat → Row) (L : Nat → Int → Int64) (Q : Int → Pos) (n : Int) : Prop :=
  S 0 542 = n ∧ 0 ≤ n ∧ (∀ k, 0 ≤ k → k < n → VP r (Q k) ∧ S 10 k = pkV (Q k) ∧ ∀ i, 0 ≤ i → i < 4 → L 9 (4 * k + i) = pH (Q k) i) ∧ HT (S 11) n (fun k => hshT (Q k)) ∧ ∀ i j, 0 ≤ i → i < n → 0 ≤ j → j < n → Q i = Q j → i = j
theorem XS_same {r : Row} {S' : Nat → Row} {L' : Nat → Int → Int64} (h : XS r S L Q n) (h1 : S' 0 542 = S 0 542) (h2 : S' 10 = S 10) (h3 : S' 11 = S 11) (h4 : L' 9 = L 9) : XS r S' L' Q n := by
  obtain ⟨a, b, c, e, f⟩ := h
  exact ⟨h1.trans a, b, by rw [h2, h4]; exact c, by rw [h3]; exact e, f⟩
/-- what stays in a search -/
def XF (S S' : Nat → Row) : Prop := (∀ j, ¬ (j = 542 ∨ (545 ≤ j ∧ j ≤ 548)) → S' 0 j = S 0 j) ∧ ∀ k, k ≠ 0 → k ≠ 10 → k ≠ 11 → k ≠ 13 → S' k = S k
theorem XF.rfl : XF S S := ⟨fun _ _ => Eq.refl _, fun _ _ _ _ _ => Eq.refl _⟩
theorem XF.trans {S' S'' : Nat → Row} (h : XF S S') (g : XF S' S'') : XF S S'' := ⟨fun j a => (g.1 j a).trans (h.1 j a), fun k a b c e => (g.2 k a b c e).trans (h.2 k a b c e)⟩
/-- what stays where only the made position changes -/
def XM (S S' : Nat → Row) (L L' : Nat → Int → Int64) : Prop := XF S S' ∧ S' 0 542 = S 0 542 ∧ S' 10 = S 10 ∧ S' 11 = S 11 ∧ L' 9 = L 9
theorem XM.trans {S' S'' : Nat → Row} {L' L'' : Nat → Int → Int64} (h : XM S S' L L') (g : XM S' S'' L' L'') : XM S S'' L L'' := ⟨h.1.trans g.1, g.2.1.trans h.2.1, g.2.2.1.trans h.2.2.1, g.2.2.2.1.trans h.2.2.2.1, g.2.2.2.2.trans h.2.2.2.2⟩
theorem XS.mov {r : Row} {S' : Nat → Row} {L' : Nat → Int → Int64} (h : XS r S L Q n) (g : XM S S' L L') : XS r S' L' Q n := XS_same h g.2.1 g.2.2.1 g.2.2.2.1 g.2.2.2.2
theorem m_packed (hd : 9 ≤ d) (hr : RX (S 1)) (hv : VP (S 1) (mdP S L)) (hp : post (some (.int (jI (pkV (mdP S L))))) (MH h0 m S L)) : D G l d mX7_packed [vR m] (MH h0 m S L) post xp := by
  refine D_in hd rfl rfl fun V XV C => b_X7_packed_0 C ?_
  have e : pkV (mdP S L) = 8 * (8 * (8 * (8 * (16 * (64 * (4 * (S 0 548 + 1) + S 0 547) + S 0 546) + S 0 545) + S 13 0) + S 13 1) + S 13 2) + S 13 3 := rfl
  rw [e] at hp
  simp (disch := omega) only [M_kd, M_ref1, M_kd1, M_ln1, M_get1, M_put1, M_ref2, M_kd2, M_ln2, M_get2, M_put2, M_ref3, M_kd3, M_ln3, M_get3, M_put3, M_ref4, M_kd4, M_ln4, M_get4, M_put4, M_ref5, M_kd5, M_ln5, M_get5, M_put5, M_ref6, M_kd6, M_ln6, M_get6, M_put6, M_ref7, M_kd7, M_ln7, M_get7, M_put7, M_ref8, M_kd8, M_ln8, M_get8, M_put8, M_ref9, M_kd9, M_ln9, M_get9, M_put9, M_ref10, M_kd10, M_ln10, M_get10, M_put10, M_ref11, M_kd11, M_ln11, M_get11, M_put11, M_ref12, M_kd12, M_ln12, M_get12, M_put12, M_ref13, M_kd13, M_ln13, M_get13, M_put13, M_ref14, M_kd14, M_ln14, M_get14, M_put14, M_p526, M_g526, M_p527, M_g527, M_p529, M_g529, M_p530, M_g530, M_p531, M_g531, M_p532, M_g532, M_p533, M_g533, M_p534, M_g534, M_p535, M_g535, M_p536, M_g536, M_p537, M_g537, M_p542, M_g542, M_p545, M_g545, M_p546, M_g546, M_p547, M_g547, M_p548, M_g548, M_p550, M_g550, M_hz, M_hs, jL_mul, jL_add, jL_sub, jL_div, jL_rem, jL_of32, jI_of64, jI_add, jI_sub, jI_mul, jI_div, jI_rem, jI_neg, jI_eq, jI_lt, jI_le, jI_eq0, jI_lt0, jI_0lt, jI_le0, jI_0le, forall_eq, true_and, and_true, or_true, true_or, or_false, false_or, and_false, false_and, not_true_eq_false, not_false_eq_true, false_implies, true_implies, implies_true, Int.reduceEq, Int.reduceLT, Int.reduceLE, Int.reduceAdd, Int.reduceSub, Int.reduceMul, Int.reduceNeg, Int.reduceNe, Nat.reduceEqDiff, Nat.reduceAdd, Int.cast_ofNat_Int, ne_eq, ↓reduceIte, sr_eq, sr_sr, sr_ne, up_up, vp_jI]
  refine b_X7_packed_38 C ?_
  simp (disch := omega) only [M_kd, M_ref1, M_kd1, M_ln1, M_get1, M_put1, M_ref2, M_kd2, M_ln2, M_get2, M_put2, M_ref3, M_kd3, M_ln3, M_get3, M_put3, M_ref4, M_kd4, M_ln4, M_get4, M_put4, M_ref5, M_kd5, M_ln5, M_get5, M_put5, M_ref6, M_kd6, M_ln6, M_get6, M_put6, M_ref7, M_kd7, M_ln7, M_get7, M_put7, M_ref8, M_kd8, M_ln8, M_get8, M_put8, M_ref9, M_kd9, M_ln9, M_get9, M_put9, M_ref10, M_kd10, M_ln10, M_get10, M_put10, M_ref11, M_kd11, M_ln11, M_get11, M_put11, M_ref12, M_kd12, M_ln12, M_get12, M_put12, M_ref13, M_kd13, M_ln13, M_get13, M_put13, M_ref14, M_kd14, M_ln14, M_get14, M_put14, M_p526, M_g526, M_p527, M_g527, M_p529, M_g529, M_p530, M_g530, M_p531, M_g531, M_p532, M_g532, M_p533, M_g533, M_p534, M_g534, M_p535, M_g535, M_p536, M_g536, M_p537, M_g537, M_p542, M_g542, M_p545, M_g545, M_p546, M_g546, M_p547, M_g547, M_p548, M_g548, M_p550, M_g550, M_hz, M_hs, jL_mul, jL_add, jL_sub, jL_div, jL_rem, jL_of32, jI_of64, jI_add, jI_sub, jI_mul, jI_div, jI_rem, jI_neg, jI_eq, jI_lt, jI_le, jI_eq0, jI_lt0, jI_0lt, jI_le0, jI_0le, forall_eq, true_and, and_true, or_true, true_or, or_false, false_or, and_false, false_and, not_true_eq_false, not_false_eq_true, false_implies, true_implies, implies_true, Int.reduceEq, Int.reduceLT, Int.reduceLE, Int.reduceAdd, Int.reduceSub, Int.reduceMul, Int.reduceNeg, Int.reduceNe, Nat.reduceEqDiff, Nat.reduceAdd, Int.cast_ofNat_Int, ne_eq, ↓reduceIte, sr_eq, sr_sr, sr_ne, up_up, vp_jI]
  refine b_X7_packed_38 C ?_
  simp (disch := omega) only [M_kd, M_ref1, M_kd1, M_ln1, M_get1, M_put1, M_ref2, M_kd2, M_ln2, M_get2, M_put2, M_ref3, M_kd3, M_ln3, M_get3, M_put3, M_ref4, M_kd4, M_ln4, M_get4, M_put4, M_ref5, M_kd5, M_ln5, M_get5, M_put5, M_ref6, M_kd6, M_ln6, M_get6, M_put6, M_ref7, M_kd7, M_ln7, M_get7, M_put7, M_ref8, M_kd8, M_ln8, M_get8, M_put8, M_ref9, M_kd9, M_ln9, M_get9, M_put9, M_ref10, M_kd10, M_ln10, M_get10, M_put10, M_ref11, M_kd11, M_ln11, M_get11, M_put11, M_ref12, M_kd12, M_ln12, M_get12, M_put12, M_ref13, M_kd13, M_ln13, M_get13, M_put13, M_ref14, M_kd14, M_ln14, M_get14, M_put14, M_p526, M_g526, M_p527, M_g527, M_p529, M_g529, M_p530, M_g530, M_p531, M_g531, M_p532, M_g532, M_p533, M_g533, M_p534, M_g534, M_p535, M_g535, M_p536, M_g536, M_p537, M_g537, M_p542, M_g542, M_p545, M_g545, M_p546, M_g546, M_p547, M_g547, M_p548, M_g548, M_p550, M_g550, M_hz, M_hs, jL_mul, jL_add, jL_sub, jL_div, jL_rem, jL_of32, jI_of64, jI_add, jI_sub, jI_mul, jI_div, jI_rem, jI_neg, jI_eq, jI_lt, jI_le, jI_eq0, jI_lt0, jI_0lt, jI_le0, jI_0le, forall_eq, true_and, and_true, or_true, true_or, or_false, false_or, and_false, false_and, not_true_eq_false, not_false_eq_true, false_implies, true_implies, implies_true, Int.reduceEq, Int.reduceLT, Int.reduceLE, Int.reduceAdd, Int.reduceSub, Int.reduceMul, Int.reduceNeg, Int.reduceNe, Nat.reduceEqDiff, Nat.reduceAdd, Int.cast_ofNat_Int, ne_eq, ↓reduceIte, sr_eq, sr_sr, sr_ne, up_up, vp_jI]
  refine b_X7_packed_38 C ?_
  simp (disch := omega) only [M_kd, M_ref1, M_kd1, M_ln1, M_get1, M_put1, M_ref2, M_kd2, M_ln2, M_get2, M_put2, M_ref3, M_kd3, M_ln3, M_get3, M_put3, M_ref4, M_kd4, M_ln4, M_get4, M_put4, M_ref5, M_kd5, M_ln5, M_get5, M_put5, M_ref6, M_kd6, M_ln6, M_get6, M_put6, M_ref7, M_kd7, M_ln7, M_get7, M_put7, M_ref8, M_kd8, M_ln8, M_get8, M_put8, M_ref9, M_kd9, M_ln9, M_get9, M_put9, M_ref10, M_kd10, M_ln10, M_get10, M_put10, M_ref11, M_kd11, M_ln11, M_get11, M_put11, M_ref12, M_kd12, M_ln12, M_get12, M_put12, M_ref13, M_kd13, M_ln13, M_get13, M_put13, M_ref14, M_kd14, M_ln14, M_get14, M_put14, M_p526, M_g526, M_p527, M_g527, M_p529, M_g529, M_p530, M_g530, M_p531, M_g531, M_p532, M_g532, M_p533, M_g533, M_p534, M_g534, M_p535, M_g535, M_p536, M_g536, M_p537, M_g537, M_p542, M_g542, M_p545, M_g545, M_p546, M_g546, M_p547, M_g547, M_p548, M_g548, M_p550, M_g550, M_hz, M_hs, jL_mul, jL_add, jL_sub, jL_div, jL_rem, jL_of32, jI_of64, jI_add, jI_sub, jI_mul, jI_div, jI_rem, jI_neg, jI_eq, jI_lt, jI_le, jI_eq0, jI_lt0, jI_0lt, jI_le0, jI_0le, forall_eq, true_and, and_true, or_true, true_or, or_false, false_or, and_false, false_and, not_true_eq_false, not_false_eq_true, false_implies, true_implies, implies_true, Int.reduceEq, Int.reduceLT, Int.reduceLE, Int.reduceAdd, Int.reduceSub, Int.reduceMul, Int.reduceNeg, Int.reduceNe, Nat.reduceEqDiff, Nat.reduceAdd, Int.cast_ofNat_Int, ne_eq, ↓reduceIte, sr_eq, sr_sr, sr_ne, up_up, vp_jI]
  refine b_X7_packed_38 C ?_
  simp (disch := omega) only [M_kd, M_ref1, M_kd1, M_ln1, M_get1, M_put1, M_ref2, M_kd2, M_ln2, M_get2, M_put2, M_ref3, M_kd3, M_ln3, M_get3, M_put3, M_ref4, M_kd4, M_ln4, M_get4, M_put4, M_ref5, M_kd5, M_ln5, M_get5, M_put5, M_ref6, M_kd6, M_ln6, M_get6, M_put6, M_ref7, M_kd7, M_ln7, M_get7, M_put7, M_ref8, M_kd8, M_ln8, M_get8, M_put8, M_ref9, M_kd9, M_ln9, M_get9, M_put9, M_ref10, M_kd10, M_ln10, M_get10, M_put10, M_ref11, M_kd11, M_ln11, M_get11, M_put11, M_ref12, M_kd12, M_ln12, M_get12, M_put12, M_ref13, M_kd13, M_ln13, M_get13, M_put13, M_ref14, M_kd14, M_ln14, M_get14, M_put14, M_p526, M_g526, M_p527, M_g527, M_p529, M_g529, M_p530, M_g530, M_p531, M_g531, M_p532, M_g532, M_p533, M_g533, M_p534, M_g534, M_p535, M_g535, M_p536, M_g536, M_p537, M_g537, M_p542, M_g542, M_p545, M_g545, M_p546, M_g546, M_p547, M_g547, M_p548, M_g548, M_p550, M_g550, M_hz, M_hs, jL_mul, jL_add, jL_sub, jL_div, jL_rem, jL_of32, jI_of64, jI_add, jI_sub, jI_mul, jI_div, jI_rem, jI_neg, jI_eq, jI_lt, jI_le, jI_eq0, jI_lt0, jI_0lt, jI_le0, jI_0le, forall_eq, true_and, and_true, or_true, true_or, or_false, false_or, and_false, false_and, not_true_eq_false, not_false_eq_true, false_implies, true_implies, implies_true, Int.reduceEq, Int.reduceLT, Int.reduceLE, Int.reduceAdd, Int.reduceSub, Int.reduceMul, Int.reduceNeg, Int.reduceNe, Nat.reduceEqDiff, Nat.reduceAdd, Int.cast_ofNat_Int, ne_eq, ↓reduceIte, sr_eq, sr_sr, sr_ne, up_up, vp_jI]
  refine b_X7_packed_38 C ?_
  simp (disch := omega) only [M_kd, M_ref1, M_kd1, M_ln1, M_get1, M_put1, M_ref2, M_kd2, M_ln2, M_get2, M_put2, M_ref3, M_kd3, M_ln3, M_get3, M_put3, M_ref4, M_kd4, M_ln4, M_get4, M_put4, M_ref5, M_kd5, M_ln5, M_get5, M_put5, M_ref6, M_kd6, M_ln6, M_get6, M_put6, M_ref7, M_kd7, M_ln7, M_get7, M_put7, M_ref8, M_kd8, M_ln8, M_get8, M_put8, M_ref9, M_kd9, M_ln9, M_get9, M_put9, M_ref10, M_kd10, M_ln10, M_get10, M_put10, M_ref11, M_kd11, M_ln11, M_get11, M_put11, M_ref12, M_kd12, M_ln12, M_get12, M_put12, M_ref13, M_kd13, M_ln13, M_get13, M_put13, M_ref14, M_kd14, M_ln14, M_get14, M_put14, M_p526, M_g526, M_p527, M_g527, M_p529, M_g529, M_p530, M_g530, M_p531, M_g531, M_p532, M_g532, M_p533, M_g533, M_p534, M_g534, M_p535, M_g535, M_p536, M_g536, M_p537, M_g537, M_p542, M_g542, M_p545, M_g545, M_p546, M_g546, M_p547, M_g547, M_p548, M_g548, M_p550, M_g550, M_hz, M_hs, jL_mul, jL_add, jL_sub, jL_div, jL_rem, jL_of32, jI_of64, jI_add, jI_sub, jI_mul, jI_div, jI_rem, jI_neg, jI_eq, jI_lt, jI_le, jI_eq0, jI_lt0, jI_0lt, jI_le0, jI_0le, forall_eq, true_and, and_true, or_true, true_or, or_false, false_or, and_false, false_and, not_true_eq_false, not_false_eq_true, false_implies, true_implies, implies_true, Int.reduceEq, Int.reduceLT, Int.reduceLE, Int.reduceAdd, Int.reduceSub, Int.reduceMul, Int.reduceNeg, Int.reduceNe, Nat.reduceEqDiff, Nat.reduceAdd, Int.cast_ofNat_Int, ne_eq, ↓reduceIte, sr_eq, sr_sr, sr_ne, up_up, vp_jI, Int.le_refl]
  exact hp
theorem lg0 {x y : Int64} : lg_cmp x y = 0 ↔ x = y := by
  unfold lg_cmp
  by_cases h1 : x > y
  · rw [if_pos h1]
    have : x ≠ y := fun e => by subst e; exact absurd h1 (Int64.lt_irrefl)
    simp [this]
  · rw [if_neg h1]
    by_cases h2 : x = y
    · simp [h2]
    · rw [if_neg h2]; simp [h2]
theorem m_isSame (hd : 9 ≤ d) (hr : RX (S 1)) (hX : XS (S 1) S L Q n) (hn : n ≤ 4020) {k : Int} (hk : 0 ≤ k ∧ k < n) {q : Pos} (hv : VP (S 1) q) (hq : ∀ i, 0 ≤ i → i < 4 → L 12 i = pH q i)
    (h1 : Q k = q → post (some (.int (jI 1))) (MH h0 m S L)) (h2 : Q k ≠ q → post (some (.int (jI 0))) (MH h0 m S L)) : D G l d mX7_isSame [vR m, vI (jI k), vI (jI (pkV q))] (MH h0 m S L) post xp := by
  obtain ⟨x1, x2, x3, x4, x5⟩ := hX
  obtain ⟨v1, v2, v3⟩ := x3 k hk.1 hk.2
  have p1 := (pkv_un hr hv).1
  have p2 := (pkv_un hr v1).1
  refine D_in (by omega) rfl rfl fun V XV C => b_X7_isSame_0 C ?_
  have no : Q k ≠ q → ∀ i, V 19 [(0, vR m), (1, vI (jI k)), (3, vI (jI 0)), (4, vI (jI i))] [] (MH h0 m S L) := fun g i => by
    refine b_X7_isSame_19 C ?_
    simp (disch := omega) only [M_kd, M_ref1, M_kd1, M_ln1, M_get1, M_put1, M_ref2, M_kd2, M_ln2, M_get2, M_put2, M_ref3, M_kd3, M_ln3, M_get3, M_put3, M_ref4, M_kd4, M_ln4, M_get4, M_put4, M_ref5, M_kd5, M_ln5, M_get5, M_put5, M_ref6, M_kd6, M_ln6, M_get6, M_put6, M_ref7, M_kd7, M_ln7, M_get7, M_put7, M_ref8, M_kd8, M_ln8, M_get8, M_put8, M_ref9, M_kd9, M_ln9, M_get9, M_put9, M_ref10, M_kd10, M_ln10, M_get10, M_put10, M_ref11, M_kd11, M_ln11, M_get11, M_put11, M_ref12, M_kd12, M_ln12, M_get12, M_put12, M_ref13, M_kd13, M_ln13, M_get13, M_put13, M_ref14, M_kd14, M_ln14, M_get14, M_put14, M_p526, M_g526, M_p527, M_g527, M_p529, M_g529, M_p530, M_g530, M_p531, M_g531, M_p532, M_g532, M_p533, M_g533, M_p534, M_g534, M_p535, M_g535, M_p536, M_g536, M_p537, M_g537, M_p542, M_g542, M_p545, M_g545, M_p546, M_g546, M_p547, M_g547, M_p548, M_g548, M_p550, M_g550, M_hz, M_hs, jL_mul, jL_add, jL_sub, jL_div, jL_rem, jL_of32, jI_of64, jI_add, jI_sub, jI_mul, jI_div, jI_rem, jI_neg, jI_eq, jI_lt, jI_le, jI_eq0, jI_lt0, jI_0lt, jI_le0, jI_0le, forall_eq, true_and, and_true, or_true, true_or, or_false, false_or, and_false, false_and, not_true_eq_false, not_false_eq_true, false_implies, true_implies, implies_true, Int.reduceEq, Int.reduceLT, Int.reduceLE, Int.reduceAdd, Int.reduceSub, Int.reduceMul, Int.reduceNeg, Int.reduceNe, Nat.reduceEqDiff, Nat.reduceAdd, Int.cast_ofNat_Int, ne_eq, ↓reduceIte, sr_eq, sr_sr, sr_ne, up_up, vp_jI]
    exact ⟨fun _ => ⟨nar_b0, h2 g⟩, fun _ => ⟨nar_b0, h2 g⟩⟩
  simp (disch := omega) only [M_kd, M_ref1, M_kd1, M_ln1, M_get1, M_put1, M_ref2, M_kd2, M_ln2, M_get2, M_put2, M_ref3, M_kd3, M_ln3, M_get3, M_put3, M_ref4, M_kd4, M_ln4, M_get4, M_put4, M_ref5, M_kd5, M_ln5, M_get5, M_put5, M_ref6, M_kd6, M_ln6, M_get6, M_put6, M_ref7, M_kd7, M_ln7, M_get7, M_put7, M_ref8, M_kd8, M_ln8, M_get8, M_put8, M_ref9, M_kd9, M_ln9, M_get9, M_put9, M_ref10, M_kd10, M_ln10, M_get10, M_put10, M_ref11, M_kd11, M_ln11, M_get11, M_put11, M_ref12, M_kd12, M_ln12, M_get12, M_put12, M_ref13, M_kd13, M_ln13, M_get13, M_put13, M_ref14, M_kd14, M_ln14, M_get14, M_put14, M_p526, M_g526, M_p527, M_g527, M_p529, M_g529, M_p530, M_g530, M_p531, M_g531, M_p532, M_g532, M_p533, M_g533, M_p534, M_g534, M_p535, M_g535, M_p536, M_g536, M_p537, M_g537, M_p542, M_g542, M_p545, M_g545, M_p546, M_g546, M_p547, M_g547, M_p548, M_g548, M_p550, M_g550, M_hz, M_hs, jL_mul, jL_add, jL_sub, jL_div, jL_rem, jL_of32, jI_of64, jI_add, jI_sub, jI_mul, jI_div, jI_rem, jI_neg, jI_eq, jI_lt, jI_le, jI_eq0, jI_lt0, jI_0lt, jI_le0, jI_0le, forall_eq, true_and, and_true, or_true, true_or, or_false, false_or, and_false, false_and, not_true_eq_false, not_false_eq_true, false_implies, true_implies, implies_true, Int.reduceEq, Int.reduceLT, Int.reduceLE, Int.reduceAdd, Int.reduceSub, Int.reduceMul, Int.reduceNeg, Int.reduceNe, Nat.reduceEqDiff, Nat.reduceAdd, Int.cast_ofNat_Int, ne_eq, ↓reduceIte, sr_eq, sr_sr, sr_ne, up_up, vp_jI, v2]
  refine ⟨fun e => no (fun g => e (by rw [g])) 0, fun e => ?_⟩
  refine up_loop (P := fun i => (∀ j, 0 ≤ j → j < i → pH (Q k) j = pH q j) → V 19 [(0, vR m), (1, vI (jI k)), (3, vI (jI 1)), (4, vI (jI i))] [] (MH h0 m S L)) (lo := 0) (hi := 4) (by omega) ?_ ?_ (fun j _ _ => by omega)
  · intro ha
    refine b_X7_isSame_19 C ?_
    simp (disch := omega) only [M_kd, M_ref1, M_kd1, M_ln1, M_get1, M_put1, M_ref2, M_kd2, M_ln2, M_get2, M_put2, M_ref3, M_kd3, M_ln3, M_get3, M_put3, M_ref4, M_kd4, M_ln4, M_get4, M_put4, M_ref5, M_kd5, M_ln5, M_get5, M_put5, M_ref6, M_kd6, M_ln6, M_get6, M_put6, M_ref7, M_kd7, M_ln7, M_get7, M_put7, M_ref8, M_kd8, M_ln8, M_get8, M_put8, M_ref9, M_kd9, M_ln9, M_get9, M_put9, M_ref10, M_kd10, M_ln10, M_get10, M_put10, M_ref11, M_kd11, M_ln11, M_get11, M_put11, M_ref12, M_kd12, M_ln12, M_get12, M_put12, M_ref13, M_kd13, M_ln13, M_get13, M_put13, M_ref14, M_kd14, M_ln14, M_get14, M_put14, M_p526, M_g526, M_p527, M_g527, M_p529, M_g529, M_p530, M_g530, M_p531, M_g531, M_p532, M_g532, M_p533, M_g533, M_p534, M_g534, M_p535, M_g535, M_p536, M_g536, M_p537, M_g537, M_p542, M_g542, M_p545, M_g545, M_p546, M_g546, M_p547, M_g547, M_p548, M_g548, M_p550, M_g550, M_hz, M_hs, jL_mul, jL_add, jL_sub, jL_div, jL_rem, jL_of32, jI_of64, jI_add, jI_sub, jI_mul, jI_div, jI_rem, jI_neg, jI_eq, jI_lt, jI_le, jI_eq0, jI_lt0, jI_0lt, jI_le0, jI_0le, forall_eq, true_and, and_true, or_true, true_or, or_false, false_or, and_false, false_and, not_true_eq_false, not_false_eq_true, false_implies, true_implies, implies_true, Int.reduceEq, Int.reduceLT, Int.reduceLE, Int.reduceAdd, Int.reduceSub, Int.reduceMul, Int.reduceNeg, Int.reduceNe, Nat.reduceEqDiff, Nat.reduceAdd, Int.cast_ofNat_Int, ne_eq, ↓reduceIte, sr_eq, sr_sr, sr_ne, up_up, vp_jI, Int.le_refl]
    exact ⟨nar_b1, h1 (pkv_inj hr v1 hv e ha)⟩
  · intro i a1 a2 ih ha
    refine b_X7_isSame_19 C ?_
    have w := v3 i a1 a2
    have w2 := hq i a1 a2
    simp (disch := omega) only [M_kd, M_ref1, M_kd1, M_ln1, M_get1, M_put1, M_ref2, M_kd2, M_ln2, M_get2, M_put2, M_ref3, M_kd3, M_ln3, M_get3, M_put3, M_ref4, M_kd4, M_ln4, M_get4, M_put4, M_ref5, M_kd5, M_ln5, M_get5, M_put5, M_ref6, M_kd6, M_ln6, M_get6, M_put6, M_ref7, M_kd7, M_ln7, M_get7, M_put7, M_ref8, M_kd8, M_ln8, M_get8, M_put8, M_ref9, M_kd9, M_ln9, M_get9, M_put9, M_ref10, M_kd10, M_ln10, M_get10, M_put10, M_ref11, M_kd11, M_ln11, M_get11, M_put11, M_ref12, M_kd12, M_ln12, M_get12, M_put12, M_ref13, M_kd13, M_ln13, M_get13, M_put13, M_ref14, M_kd14, M_ln14, M_get14, M_put14, M_p526, M_g526, M_p527, M_g527, M_p529, M_g529, M_p530, M_g530, M_p531, M_g531, M_p532, M_g532, M_p533, M_g533, M_p534, M_g534, M_p535, M_g535, M_p536, M_g536, M_p537, M_g537, M_p542, M_g542, M_p545, M_g545, M_p546, M_g546, M_p547, M_g547, M_p548, M_g548, M_p550, M_g550, M_hz, M_hs, jL_mul, jL_add, jL_sub, jL_div, jL_rem, jL_of32, jI_of64, jI_add, jI_sub, jI_mul, jI_div, jI_rem, jI_neg, jI_eq, jI_lt, jI_le, jI_eq0, jI_lt0, jI_0lt, jI_le0, jI_0le, forall_eq, true_and, and_true, or_true, true_or, or_false, false_or, and_false, false_and, not_true_eq_false, not_false_eq_true, false_implies, true_implies, implies_true, Int.reduceEq, Int.reduceLT, Int.reduceLE, Int.reduceAdd, Int.reduceSub, Int.reduceMul, Int.reduceNeg, Int.reduceNe, Nat.reduceEqDiff, Nat.reduceAdd, Int.cast_ofNat_Int, ne_eq, ↓reduceIte, sr_eq, sr_sr, sr_ne, up_up, vp_jI, w, w2, lg0]
    refine ⟨fun g => absurd g (by omega), fun _ => ⟨fun g => no (fun g2 => g (by rw [g2])) _, fun g => ih (fun j b1 b2 => ?_)⟩⟩
    by_cases g2 : j = i
    · subst g2; exact g
    · exact ha j b1 (by omega)
theorem m_unpacks (hd : 9 ≤ d) (hr : RX (S 1)) (hX : XS (S 1) S L Q n) (hn : n ≤ 4020) {k : Int} (hk : 0 ≤ k ∧ k < n) (hp : ∀ S' L', XM S S' L L' → mdP S' L' = Q k → post none (MH h0 m S' L')) : D G l d mX7_unpacks [vR m, vI (jI k)] (MH h0 m S L) post xp := by
  obtain ⟨x1, x2, x3, x4, x5⟩ := hX
  obtain ⟨v1, v2, v3⟩ := x3 k hk.1 hk.2
  obtain ⟨p1, u3, u2, u1, u0, uT, uN, uU, uL⟩ := pkv_un hr v1
  have w0 := v3 0 (by omega) (by omega)
  have w1 := v3 1 (by omega) (by omega)
  have w2 := v3 2 (by omega) (by omega)
  have w3 := v3 3 (by omega) (by omega)
  rw [Int.add_zero] at w0
  refine D_in (by omega) rfl rfl fun V XV C => b_X7_unpacks_0 C ?_
  simp (disch := omega) only [M_kd, M_ref1, M_kd1, M_ln1, M_get1, M_put1, M_ref2, M_kd2, M_ln2, M_get2, M_put2, M_ref3, M_kd3, M_ln3, M_get3, M_put3, M_ref4, M_kd4, M_ln4, M_get4, M_put4, M_ref5, M_kd5, M_ln5, M_get5, M_put5, M_ref6, M_kd6, M_ln6, M_get6, M_put6, M_ref7, M_kd7, M_ln7, M_get7, M_put7, M_ref8, M_kd8, M_ln8, M_get8, M_put8, M_ref9, M_kd9, M_ln9, M_get9, M_put9, M_ref10, M_kd10, M_ln10, M_get10, M_put10, M_ref11, M_kd11, M_ln11, M_get11, M_put11, M_ref12, M_kd12, M_ln12, M_get12, M_put12, M_ref13, M_kd13, M_ln13, M_get13, M_put13, M_ref14, M_kd14, M_ln14, M_get14, M_put14, M_p526, M_g526, M_p527, M_g527, M_p529, M_g529, M_p530, M_g530, M_p531, M_g531, M_p532, M_g532, M_p533, M_g533, M_p534, M_g534, M_p535, M_g535, M_p536, M_g536, M_p537, M_g537, M_p542, M_g542, M_p545, M_g545, M_p546, M_g546, M_p547, M_g547, M_p548, M_g548, M_p550, M_g550, M_hz, M_hs, jL_mul, jL_add, jL_sub, jL_div, jL_rem, jL_of32, jI_of64, jI_add, jI_sub, jI_mul, jI_div, jI_rem, jI_neg, jI_eq, jI_lt, jI_le, jI_eq0, jI_lt0, jI_0lt, jI_le0, jI_0le, forall_eq, true_and, and_true, or_true, true_or, or_false, false_or, and_false, false_and, not_true_eq_false, not_false_eq_true, false_implies, true_implies, implies_true, Int.reduceEq, Int.reduceLT, Int.reduceLE, Int.reduceAdd, Int.reduceSub, Int.reduceMul, Int.reduceNeg, Int.reduceNe, Nat.reduceEqDiff, Nat.reduceAdd, Int.cast_ofNat_Int, ne_eq, ↓reduceIte, sr_eq, sr_sr, sr_ne, up_up, vp_jI, v2]
  generalize hV : pkV (Q k) = v at *
  refine b_X7_unpacks_9 C ?_
  simp (disch := omega) only [M_kd, M_ref1, M_kd1, M_ln1, M_get1, M_put1, M_ref2, M_kd2, M_ln2, M_get2, M_put2, M_ref3, M_kd3, M_ln3, M_get3, M_put3, M_ref4, M_kd4, M_ln4, M_get4, M_put4, M_ref5, M_kd5, M_ln5, M_get5, M_put5, M_ref6, M_kd6, M_ln6, M_get6, M_put6, M_ref7, M_kd7, M_ln7, M_get7, M_put7, M_ref8, M_kd8, M_ln8, M_get8, M_put8, M_ref9, M_kd9, M_ln9, M_get9, M_put9, M_ref10, M_kd10, M_ln10, M_get10, M_put10, M_ref11, M_kd11, M_ln11, M_get11, M_put11, M_ref12, M_kd12, M_ln12, M_get12, M_put12, M_ref13, M_kd13, M_ln13, M_get13, M_put13, M_ref14, M_kd14, M_ln14, M_get14, M_put14, M_p526, M_g526, M_p527, M_g527, M_p529, M_g529, M_p530, M_g530, M_p531, M_g531, M_p532, M_g532, M_p533, M_g533, M_p534, M_g534, M_p535, M_g535, M_p536, M_g536, M_p537, M_g537, M_p542, M_g542, M_p545, M_g545, M_p546, M_g546, M_p547, M_g547, M_p548, M_g548, M_p550, M_g550, M_hz, M_hs, jL_mul, jL_add, jL_sub, jL_div, jL_rem, jL_of32, jI_of64, jI_add, jI_sub, jI_mul, jI_div, jI_rem, jI_neg, jI_eq, jI_lt, jI_le, jI_eq0, jI_lt0, jI_0lt, jI_le0, jI_0le, forall_eq, true_and, and_true, or_true, true_or, or_false, false_or, and_false, false_and, not_true_eq_false, not_false_eq_true, false_implies, true_implies, implies_true, Int.reduceEq, Int.reduceLT, Int.reduceLE, Int.reduceAdd, Int.reduceSub, Int.reduceMul, Int.reduceNeg, Int.reduceNe, Nat.reduceEqDiff, Nat.reduceAdd, Int.cast_ofNat_Int, ne_eq, ↓reduceIte, sr_eq, sr_sr, sr_ne, up_up, vp_jI]
  refine b_X7_unpacks_9 C ?_
  simp (disch := omega) only [M_kd, M_ref1, M_kd1, M_ln1, M_get1, M_put1, M_ref2, M_kd2, M_ln2, M_get2, M_put2, M_ref3, M_kd3, M_ln3, M_get3, M_put3, M_ref4, M_kd4, M_ln4, M_get4, M_put4, M_ref5, M_kd5, M_ln5, M_get5, M_put5, M_ref6, M_kd6, M_ln6, M_get6, M_put6, M_ref7, M_kd7, M_ln7, M_get7, M_put7, M_ref8, M_kd8, M_ln8, M_get8, M_put8, M_ref9, M_kd9, M_ln9, M_get9, M_put9, M_ref10, M_kd10, M_ln10, M_get10, M_put10, M_ref11, M_kd11, M_ln11, M_get11, M_put11, M_ref12, M_kd12, M_ln12, M_get12, M_put12, M_ref13, M_kd13, M_ln13, M_get13, M_put13, M_ref14, M_kd14, M_ln14, M_get14, M_put14, M_p526, M_g526, M_p527, M_g527, M_p529, M_g529, M_p530, M_g530, M_p531, M_g531, M_p532, M_g532, M_p533, M_g533, M_p534, M_g534, M_p535, M_g535, M_p536, M_g536, M_p537, M_g537, M_p542, M_g542, M_p545, M_g545, M_p546, M_g546, M_p547, M_g547, M_p548, M_g548, M_p550, M_g550, M_hz, M_hs, jL_mul, jL_add, jL_sub, jL_div, jL_rem, jL_of32, jI_of64, jI_add, jI_sub, jI_mul, jI_div, jI_rem, jI_neg, jI_eq, jI_lt, jI_le, jI_eq0, jI_lt0, jI_0lt, jI_le0, jI_0le, forall_eq, true_and, and_true, or_true, true_or, or_false, false_or, and_false, false_and, not_true_eq_false, not_false_eq_true, false_implies, true_implies, implies_true, Int.reduceEq, Int.reduceLT, Int.reduceLE, Int.reduceAdd, Int.reduceSub, Int.reduceMul, Int.reduceNeg, Int.reduceNe, Nat.reduceEqDiff, Nat.reduceAdd, Int.cast_ofNat_Int, ne_eq, ↓reduceIte, sr_eq, sr_sr, sr_ne, up_up, vp_jI]
  refine b_X7_unpacks_9 C ?_
  simp (disch := omega) only [M_kd, M_ref1, M_kd1, M_ln1, M_get1, M_put1, M_ref2, M_kd2, M_ln2, M_get2, M_put2, M_ref3, M_kd3, M_ln3, M_get3, M_put3, M_ref4, M_kd4, M_ln4, M_get4, M_put4, M_ref5, M_kd5, M_ln5, M_get5, M_put5, M_ref6, M_kd6, M_ln6, M_get6, M_put6, M_ref7, M_kd7, M_ln7, M_get7, M_put7, M_ref8, M_kd8, M_ln8, M_get8, M_put8, M_ref9, M_kd9, M_ln9, M_get9, M_put9, M_ref10, M_kd10, M_ln10, M_get10, M_put10, M_ref11, M_kd11, M_ln11, M_get11, M_put11, M_ref12, M_kd12, M_ln12, M_get12, M_put12, M_ref13, M_kd13, M_ln13, M_get13, M_put13, M_ref14, M_kd14, M_ln14, M_get14, M_put14, M_p526, M_g526, M_p527, M_g527, M_p529, M_g529, M_p530, M_g530, M_p531, M_g531, M_p532, M_g532, M_p533, M_g533, M_p534, M_g534, M_p535, M_g535, M_p536, M_g536, M_p537, M_g537, M_p542, M_g542, M_p545, M_g545, M_p546, M_g546, M_p547, M_g547, M_p548, M_g548, M_p550, M_g550, M_hz, M_hs, jL_mul, jL_add, jL_sub, jL_div, jL_rem, jL_of32, jI_of64, jI_add, jI_sub, jI_mul, jI_div, jI_rem, jI_neg, jI_eq, jI_lt, jI_le, jI_eq0, jI_lt0, jI_0lt, jI_le0, jI_0le, forall_eq, true_and, and_true, or_true, true_or, or_false, false_or, and_false, false_and, not_true_eq_false, not_false_eq_true, false_implies, true_implies, implies_true, Int.reduceEq, Int.reduceLT, Int.reduceLE, Int.reduceAdd, Int.reduceSub, Int.reduceMul, Int.reduceNeg, Int.reduceNe, Nat.reduceEqDiff, Nat.reduceAdd, Int.cast_ofNat_Int, ne_eq, ↓reduceIte, sr_eq, sr_sr, sr_ne, up_up, vp_jI]
  refine b_X7_unpacks_9 C ?_
  simp (disch := omega) only [M_kd, M_ref1, M_kd1, M_ln1, M_get1, M_put1, M_ref2, M_kd2, M_ln2, M_get2, M_put2, M_ref3, M_kd3, M_ln3, M_get3, M_put3, M_ref4, M_kd4, M_ln4, M_get4, M_put4, M_ref5, M_kd5, M_ln5, M_get5, M_put5, M_ref6, M_kd6, M_ln6, M_get6, M_put6, M_ref7, M_kd7, M_ln7, M_get7, M_put7, M_ref8, M_kd8, M_ln8, M_get8, M_put8, M_ref9, M_kd9, M_ln9, M_get9, M_put9, M_ref10, M_kd10, M_ln10, M_get10, M_put10, M_ref11, M_kd11, M_ln11, M_get11, M_put11, M_ref12, M_kd12, M_ln12, M_get12, M_put12, M_ref13, M_kd13, M_ln13, M_get13, M_put13, M_ref14, M_kd14, M_ln14, M_get14, M_put14, M_p526, M_g526, M_p527, M_g527, M_p529, M_g529, M_p530, M_g530, M_p531, M_g531, M_p532, M_g532, M_p533, M_g533, M_p534, M_g534, M_p535, M_g535, M_p536, M_g536, M_p537, M_g537, M_p542, M_g542, M_p545, M_g545, M_p546, M_g546, M_p547, M_g547, M_p548, M_g548, M_p550, M_g550, M_hz, M_hs, jL_mul, jL_add, jL_sub, jL_div, jL_rem, jL_of32, jI_of64, jI_add, jI_sub, jI_mul, jI_div, jI_rem, jI_neg, jI_eq, jI_lt, jI_le, jI_eq0, jI_lt0, jI_0lt, jI_le0, jI_0le, forall_eq, true_and, and_true, or_true, true_or, or_false, false_or, and_false, false_and, not_true_eq_false, not_false_eq_true, false_implies, true_implies, implies_true, Int.reduceEq, Int.reduceLT, Int.reduceLE, Int.reduceAdd, Int.reduceSub, Int.reduceMul, Int.reduceNeg, Int.reduceNe, Nat.reduceEqDiff, Nat.reduceAdd, Int.cast_ofNat_Int, ne_eq, ↓reduceIte, sr_eq, sr_sr, sr_ne, up_up, vp_jI]
  refine b_X7_unpacks_9 C ?_
  simp (disch := omega) only [M_kd, M_ref1, M_kd1, M_ln1, M_get1, M_put1, M_ref2, M_kd2, M_ln2, M_get2, M_put2, M_ref3, M_kd3, M_ln3, M_get3, M_put3, M_ref4, M_kd4, M_ln4, M_get4, M_put4, M_ref5, M_kd5, M_ln5, M_get5, M_put5, M_ref6, M_kd6, M_ln6, M_get6, M_put6, M_ref7, M_kd7, M_ln7, M_get7, M_put7, M_ref8, M_kd8, M_ln8, M_get8, M_put8, M_ref9, M_kd9, M_ln9, M_get9, M_put9, M_ref10, M_kd10, M_ln10, M_get10, M_put10, M_ref11, M_kd11, M_ln11, M_get11, M_put11, M_ref12, M_kd12, M_ln12, M_get12, M_put12, M_ref13, M_kd13, M_ln13, M_get13, M_put13, M_ref14, M_kd14, M_ln14, M_get14, M_put14, M_p526, M_g526, M_p527, M_g527, M_p529, M_g529, M_p530, M_g530, M_p531, M_g531, M_p532, M_g532, M_p533, M_g533, M_p534, M_g534, M_p535, M_g535, M_p536, M_g536, M_p537, M_g537, M_p542, M_g542, M_p545, M_g545, M_p546, M_g546, M_p547, M_g547, M_p548, M_g548, M_p550, M_g550, M_hz, M_hs, jL_mul, jL_add, jL_sub, jL_div, jL_rem, jL_of32, jI_of64, jI_add, jI_sub, jI_mul, jI_div, jI_rem, jI_neg, jI_eq, jI_lt, jI_le, jI_eq0, jI_lt0, jI_0lt, jI_le0, jI_0le, forall_eq, true_and, and_true, or_true, true_or, or_false, false_or, and_false, false_and, not_true_eq_false, not_false_eq_true, false_implies, true_implies, implies_true, Int.reduceEq, Int.reduceLT, Int.reduceLE, Int.reduceAdd, Int.reduceSub, Int.reduceMul, Int.reduceNeg, Int.reduceNe, Nat.reduceEqDiff, Nat.reduceAdd, Int.cast_ofNat_Int, ne_eq, ↓reduceIte, sr_eq, sr_sr, sr_ne, up_up, vp_jI, sr_lt]
  refine b_X7_unpacks_77 C ?_
  simp (disch := omega) only [M_kd, M_ref1, M_kd1, M_ln1, M_get1, M_put1, M_ref2, M_kd2, M_ln2, M_get2, M_put2, M_ref3, M_kd3, M_ln3, M_get3, M_put3, M_ref4, M_kd4, M_ln4, M_get4, M_put4, M_ref5, M_kd5, M_ln5, M_get5, M_put5, M_ref6, M_kd6, M_ln6, M_get6, M_put6, M_ref7, M_kd7, M_ln7, M_get7, M_put7, M_ref8, M_kd8, M_ln8, M_get8, M_put8, M_ref9, M_kd9, M_ln9, M_get9, M_put9, M_ref10, M_kd10, M_ln10, M_get10, M_put10, M_ref11, M_kd11, M_ln11, M_get11, M_put11, M_ref12, M_kd12, M_ln12, M_get12, M_put12, M_ref13, M_kd13, M_ln13, M_get13, M_put13, M_ref14, M_kd14, M_ln14, M_get14, M_put14, M_p526, M_g526, M_p527, M_g527, M_p529, M_g529, M_p530, M_g530, M_p531, M_g531, M_p532, M_g532, M_p533, M_g533, M_p534, M_g534, M_p535, M_g535, M_p536, M_g536, M_p537, M_g537, M_p542, M_g542, M_p545, M_g545, M_p546, M_g546, M_p547, M_g547, M_p548, M_g548, M_p550, M_g550, M_hz, M_hs, jL_mul, jL_add, jL_sub, jL_div, jL_rem, jL_of32, jI_of64, jI_add, jI_sub, jI_mul, jI_div, jI_rem, jI_neg, jI_eq, jI_lt, jI_le, jI_eq0, jI_lt0, jI_0lt, jI_le0, jI_0le, forall_eq, true_and, and_true, or_true, true_or, or_false, false_or, and_false, false_and, not_true_eq_false, not_false_eq_true, false_implies, true_implies, implies_true, Int.reduceEq, Int.reduceLT, Int.reduceLE, Int.reduceAdd, Int.reduceSub, Int.reduceMul, Int.reduceNeg, Int.reduceNe, Nat.reduceEqDiff, Nat.reduceAdd, Int.cast_ofNat_Int, ne_eq, ↓reduceIte, sr_eq, sr_sr, sr_ne, up_up, vp_jI, Int.add_zero]
  refine b_X7_unpacks_77 C ?_
  simp (disch := omega) only [M_kd, M_ref1, M_kd1, M_ln1, M_get1, M_put1, M_ref2, M_kd2, M_ln2, M_get2, M_put2, M_ref3, M_kd3, M_ln3, M_get3, M_put3, M_ref4, M_kd4, M_ln4, M_get4, M_put4, M_ref5, M_kd5, M_ln5, M_get5, M_put5, M_ref6, M_kd6, M_ln6, M_get6, M_put6, M_ref7, M_kd7, M_ln7, M_get7, M_put7, M_ref8, M_kd8, M_ln8, M_get8, M_put8, M_ref9, M_kd9, M_ln9, M_get9, M_put9, M_ref10, M_kd10, M_ln10, M_get10, M_put10, M_ref11, M_kd11, M_ln11, M_get11, M_put11, M_ref12, M_kd12, M_ln12, M_get12, M_put12, M_ref13, M_kd13, M_ln13, M_get13, M_put13, M_ref14, M_kd14, M_ln14, M_get14, M_put14, M_p526, M_g526, M_p527, M_g527, M_p529, M_g529, M_p530, M_g530, M_p531, M_g531, M_p532, M_g532, M_p533, M_g533, M_p534, M_g534, M_p535, M_g535, M_p536, M_g536, M_p537, M_g537, M_p542, M_g542, M_p545, M_g545, M_p546, M_g546, M_p547, M_g547, M_p548, M_g548, M_p550, M_g550, M_hz, M_hs, jL_mul, jL_add, jL_sub, jL_div, jL_rem, jL_of32, jI_of64, jI_add, jI_sub, jI_mul, jI_div, jI_rem, jI_neg, jI_eq, jI_lt, jI_le, jI_eq0, jI_lt0, jI_0lt, jI_le0, jI_0le, forall_eq, true_and, and_true, or_true, true_or, or_false, false_or, and_false, false_and, not_true_eq_false, not_false_eq_true, false_implies, true_implies, implies_true, Int.reduceEq, Int.reduceLT, Int.reduceLE, Int.reduceAdd, Int.reduceSub, Int.reduceMul, Int.reduceNeg, Int.reduceNe, Nat.reduceEqDiff, Nat.reduceAdd, Int.cast_ofNat_Int, ne_eq, ↓reduceIte, sr_eq, sr_sr, sr_ne, up_up, vp_jI, Int.add_zero]
  refine b_X7_unpacks_77 C ?_
  simp (disch := omega) only [M_kd, M_ref1, M_kd1, M_ln1, M_get1, M_put1, M_ref2, M_kd2, M_ln2, M_get2, M_put2, M_ref3, M_kd3, M_ln3, M_get3, M_put3, M_ref4, M_kd4, M_ln4, M_get4, M_put4, M_ref5, M_kd5, M_ln5, M_get5, M_put5, M_ref6, M_kd6, M_ln6, M_get6, M_put6, M_ref7, M_kd7, M_ln7, M_get7, M_put7, M_ref8, M_kd8, M_ln8, M_get8, M_put8, M_ref9, M_kd9, M_ln9, M_get9, M_put9, M_ref10, M_kd10, M_ln10, M_get10, M_put10, M_ref11, M_kd11, M_ln11, M_get11, M_put11, M_ref12, M_kd12, M_ln12, M_get12, M_put12, M_ref13, M_kd13, M_ln13, M_get13, M_put13, M_ref14, M_kd14, M_ln14, M_get14, M_put14, M_p526, M_g526, M_p527, M_g527, M_p529, M_g529, M_p530, M_g530, M_p531, M_g531, M_p532, M_g532, M_p533, M_g533, M_p534, M_g534, M_p535, M_g535, M_p536, M_g536, M_p537, M_g537, M_p542, M_g542, M_p545, M_g545, M_p546, M_g546, M_p547, M_g547, M_p548, M_g548, M_p550, M_g550, M_hz, M_hs, jL_mul, jL_add, jL_sub, jL_div, jL_rem, jL_of32, jI_of64, jI_add, jI_sub, jI_mul, jI_div, jI_rem, jI_neg, jI_eq, jI_lt, jI_le, jI_eq0, jI_lt0, jI_0lt, jI_le0, jI_0le, forall_eq, true_and, and_true, or_true, true_or, or_false, false_or, and_false, false_and, not_true_eq_false, not_false_eq_true, false_implies, true_implies, implies_true, Int.reduceEq, Int.reduceLT, Int.reduceLE, Int.reduceAdd, Int.reduceSub, Int.reduceMul, Int.reduceNeg, Int.reduceNe, Nat.reduceEqDiff, Nat.reduceAdd, Int.cast_ofNat_Int, ne_eq, ↓reduceIte, sr_eq, sr_sr, sr_ne, up_up, vp_jI, Int.add_zero]
  refine b_X7_unpacks_77 C ?_
  simp (disch := omega) only [M_kd, M_ref1, M_kd1, M_ln1, M_get1, M_put1, M_ref2, M_kd2, M_ln2, M_get2, M_put2, M_ref3, M_kd3, M_ln3, M_get3, M_put3, M_ref4, M_kd4, M_ln4, M_get4, M_put4, M_ref5, M_kd5, M_ln5, M_get5, M_put5, M_ref6, M_kd6, M_ln6, M_get6, M_put6, M_ref7, M_kd7, M_ln7, M_get7, M_put7, M_ref8, M_kd8, M_ln8, M_get8, M_put8, M_ref9, M_kd9, M_ln9, M_get9, M_put9, M_ref10, M_kd10, M_ln10, M_get10, M_put10, M_ref11, M_kd11, M_ln11, M_get11, M_put11, M_ref12, M_kd12, M_ln12, M_get12, M_put12, M_ref13, M_kd13, M_ln13, M_get13, M_put13, M_ref14, M_kd14, M_ln14, M_get14, M_put14, M_p526, M_g526, M_p527, M_g527, M_p529, M_g529, M_p530, M_g530, M_p531, M_g531, M_p532, M_g532, M_p533, M_g533, M_p534, M_g534, M_p535, M_g535, M_p536, M_g536, M_p537, M_g537, M_p542, M_g542, M_p545, M_g545, M_p546, M_g546, M_p547, M_g547, M_p548, M_g548, M_p550, M_g550, M_hz, M_hs, jL_mul, jL_add, jL_sub, jL_div, jL_rem, jL_of32, jI_of64, jI_add, jI_sub, jI_mul, jI_div, jI_rem, jI_neg, jI_eq, jI_lt, jI_le, jI_eq0, jI_lt0, jI_0lt, jI_le0, jI_0le, forall_eq, true_and, and_true, or_true, true_or, or_false, false_or, and_false, false_and, not_true_eq_false, not_false_eq_true, false_implies, true_implies, implies_true, Int.reduceEq, Int.reduceLT, Int.reduceLE, Int.reduceAdd, Int.reduceSub, Int.reduceMul, Int.reduceNeg, Int.reduceNe, Nat.reduceEqDiff, Nat.reduceAdd, Int.cast_ofNat_Int, ne_eq, ↓reduceIte, sr_eq, sr_sr, sr_ne, up_up, vp_jI, Int.add_zero]
  refine b_X7_unpacks_77 C ?_
  simp (disch := omega) only [M_kd, M_ref1, M_kd1, M_ln1, M_get1, M_put1, M_ref2, M_kd2, M_ln2, M_get2, M_put2, M_ref3, M_kd3, M_ln3, M_get3, M_put3, M_ref4, M_kd4, M_ln4, M_get4, M_put4, M_ref5, M_kd5, M_ln5, M_get5, M_put5, M_ref6, M_kd6, M_ln6, M_get6, M_put6, M_ref7, M_kd7, M_ln7, M_get7, M_put7, M_ref8, M_kd8, M_ln8, M_get8, M_put8, M_ref9, M_kd9, M_ln9, M_get9, M_put9, M_ref10, M_kd10, M_ln10, M_get10, M_put10, M_ref11, M_kd11, M_ln11, M_get11, M_put11, M_ref12, M_kd12, M_ln12, M_get12, M_put12, M_ref13, M_kd13, M_ln13, M_get13, M_put13, M_ref14, M_kd14, M_ln14, M_get14, M_put14, M_p526, M_g526, M_p527, M_g527, M_p529, M_g529, M_p530, M_g530, M_p531, M_g531, M_p532, M_g532, M_p533, M_g533, M_p534, M_g534, M_p535, M_g535, M_p536, M_g536, M_p537, M_g537, M_p542, M_g542, M_p545, M_g545, M_p546, M_g546, M_p547, M_g547, M_p548, M_g548, M_p550, M_g550, M_hz, M_hs, jL_mul, jL_add, jL_sub, jL_div, jL_rem, jL_of32, jI_of64, jI_add, jI_sub, jI_mul, jI_div, jI_rem, jI_neg, jI_eq, jI_lt, jI_le, jI_eq0, jI_lt0, jI_0lt, jI_le0, jI_0le, forall_eq, true_and, and_true, or_true, true_or, or_false, false_or, and_false, false_and, not_true_eq_false, not_false_eq_true, false_implies, true_implies, implies_true, Int.reduceEq, Int.reduceLT, Int.reduceLE, Int.reduceAdd, Int.reduceSub, Int.reduceMul, Int.reduceNeg, Int.reduceNe, Nat.reduceEqDiff, Nat.reduceAdd, Int.cast_ofNat_Int, ne_eq, ↓reduceIte, sr_eq, sr_sr, sr_ne, up_up, vp_jI, Int.le_refl]
  refine hp _ _ ⟨⟨fun j hj => ?_, fun i a b c e => ?_⟩, ?_, ?_, ?_, ?_⟩ ?_
  · simp (disch := omega) only [sr_ne, sr_eq, up_ne]
  · simp (disch := omega) only [sr_ne]
  · simp (disch := omega) only [sr_ne, sr_eq, up_ne]
  · simp (disch := omega) only [sr_ne]
  · simp (disch := omega) only [sr_ne]
  · simp (disch := omega) only [sr_ne]
  · unfold mdP
    rw [← mk_eta (p := Q k)]
    refine mkP_ext.mpr ⟨fun i a b => ?_, fun i a b => ?_, ?_, ?_, ?_, ?_⟩
    · have : i = 0 ∨ i = 1 ∨ i = 2 ∨ i = 3 := by omega
      rcases this with rfl | rfl | rfl | rfl
      · simp (disch := omega) only [sr_ne, sr_eq, upL_ne, upL_eq]; exact w0
      · simp (disch := omega) only [sr_ne, sr_eq, upL_ne, upL_eq]; exact w1
      · simp (disch := omega) only [sr_ne, sr_eq, upL_ne, upL_eq]; exact w2
      · simp (disch := omega) only [sr_ne, sr_eq, upL_ne, upL_eq]; exact w3
    · have : i = 0 ∨ i = 1 ∨ i = 2 ∨ i = 3 := by omega
      rcases this with rfl | rfl | rfl | rfl
      · simp (disch := omega) only [sr_ne, sr_eq, up_ne, up_eq]; exact u0
      · simp (disch := omega) only [sr_ne, sr_eq, up_ne, up_eq]; exact u1
      · simp (disch := omega) only [sr_ne, sr_eq, up_ne, up_eq]; exact u2
      · simp (disch := omega) only [sr_ne, sr_eq, up_ne, up_eq]; exact u3
    · simp (disch := omega) only [sr_ne, sr_eq, up_ne, up_eq]; exact uT
    · simp (disch := omega) only [sr_ne, sr_eq, up_ne, up_eq]; exact uN
    · simp (disch := omega) only [sr_ne, sr_eq, up_ne, up_eq]; exact uU
    · simp (disch := omega) only [sr_ne, sr_eq, up_ne, up_eq]; exact uL
end TWN
section TWO
variable {G : Wd} {l : Launch} {d : Nat} {post : Option Value → VH → Prop} {xp : Nat → VH → Prop} {h0 h : VH} {m : Nat} {S : Nat → Row} {L : Nat → Int → Int64} {Q : Int → Pos} {n : Int}
theorem j_and14 {x : Int} (h : 0 ≤ x ∧ x < 2147483648) : jI x &&& jI 16383 = jI (x % 16384) := by
  obtain ⟨w, rfl⟩ : ∃ w : Nat, x = w := ⟨x.toNat, by omega⟩
  apply Int32.toBitVec_inj.mp
  apply BitVec.eq_of_toNat_eq
  have e1 : ∀ v : Nat, v < 2147483648 → (jI (v : Int)).toBitVec.toNat = v := fun v hv => by
    show (BitVec.ofInt 32 (v : Int)).toNat = v
    rw [BitVec.ofInt_natCast, BitVec.toNat_ofNat, Nat.mod_eq_of_lt (by omega)]
  show ((jI (w : Int)).toBitVec &&& 16383#32).toNat = _
  rw [BitVec.toNat_and, show (16383#32 : BitVec 32).toNat = 2 ^ 14 - 1 by decide, Nat.and_two_pow_sub_one_eq_mod, e1 w (by omega), show ((w : Int) % 16384) = ((w % 16384 : Nat) : Int) by omega, e1 _ (by omega)]
theorem m_adds (hd : 11 ≤ d) (hr : RX (S 1)) (hX : XS (S 1) S L Q n) (hn : n ≤ 4019) (hv : VP (S 1) (mdP S L))
    (hp : ∀ S' L' Q' n', XS (S 1) S' L' Q' n' → XF S S' → mdP S' L' = mdP S L → (n ≤ n' ∧ n' ≤ n + 1) → (∀ i, 0 ≤ i → i < n → Q' i = Q i) → (∀ i, n ≤ i → i < n' → Q' i = mdP S L) → (∃ i, 0 ≤ i ∧ i < n' ∧ Q' i = mdP S L) → post none (MH h0 m S' L')) : D G l d mX7_adds [vR m] (MH h0 m S L) post xp := by
  obtain ⟨x1, x2, x3, x4, x5⟩ := id hX
  have hbd := hshT_bd (p := mdP S L)
  generalize hgg : hshT (mdP S L) = g0 at hbd
  obtain ⟨pk1, -⟩ := pkv_un hr hv
  have eH : ∀ i, 0 ≤ i → i < 4 → L 12 i = pH (mdP S L) i := fun i a b => (mk_H ⟨a, b⟩).symm
  refine D_in (by omega) rfl rfl fun V XV C => b_X7_adds_0 C ⟨M_kd, m_packed (by omega) hr hv ⟨_, rfl, ?_⟩⟩
  simp (disch := omega) only [M_kd, M_ref1, M_kd1, M_ln1, M_get1, M_put1, M_ref2, M_kd2, M_ln2, M_get2, M_put2, M_ref3, M_kd3, M_ln3, M_get3, M_put3, M_ref4, M_kd4, M_ln4, M_get4, M_put4, M_ref5, M_kd5, M_ln5, M_get5, M_put5, M_ref6, M_kd6, M_ln6, M_get6, M_put6, M_ref7, M_kd7, M_ln7, M_get7, M_put7, M_ref8, M_kd8, M_ln8, M_get8, M_put8, M_ref9, M_kd9, M_ln9, M_get9, M_put9, M_ref10, M_kd10, M_ln10, M_get10, M_put10, M_ref11, M_kd11, M_ln11, M_get11, M_put11, M_ref12, M_kd12, M_ln12, M_get12, M_put12, M_ref13, M_kd13, M_ln13, M_get13, M_put13, M_ref14, M_kd14, M_ln14, M_get14, M_put14, M_p526, M_g526, M_p527, M_g527, M_p529, M_g529, M_p530, M_g530, M_p531, M_g531, M_p532, M_g532, M_p533, M_g533, M_p534, M_g534, M_p535, M_g535, M_p536, M_g536, M_p537, M_g537, M_p542, M_g542, M_p545, M_g545, M_p546, M_g546, M_p547, M_g547, M_p548, M_g548, M_p550, M_g550, M_hz, M_hs, jL_mul, jL_add, jL_sub, jL_div, jL_rem, jL_of32, jI_of64, jI_add, jI_sub, jI_mul, jI_div, jI_rem, jI_neg, jI_eq, jI_lt, jI_le, jI_eq0, jI_lt0, jI_0lt, jI_le0, jI_0le, forall_eq, true_and, and_true, or_true, true_or, or_false, false_or, and_false, false_and, not_true_eq_false, not_false_eq_true, false_implies, true_implies, implies_true, Int.reduceEq, Int.reduceLT, Int.reduceLE, Int.reduceAdd, Int.reduceSub, Int.reduceMul, Int.reduceNeg, Int.reduceNe, Nat.reduceEqDiff, Nat.reduceAdd, Int.cast_ofNat_Int, ne_eq, ↓reduceIte, sr_eq, sr_sr, sr_ne, up_up, vp_jI]
  obtain ⟨e, e0, e1, e2, e3⟩ := HT_free x4 (by omega) hbd
  have v52 : V 52 [(0, vR m), (1, vI (jI (pkV (mdP S L)))), (4, vI (jI ((g0 + 0) % 16384)))] [] (MH h0 m S L) := by
    refine up_loop (P := fun j => (∀ i, 0 ≤ i → i < j → Q (S 11 ((g0 + i) % 16384)) ≠ mdP S L) → V 52 [(0, vR m), (1, vI (jI (pkV (mdP S L)))), (4, vI (jI ((g0 + j) % 16384)))] [] (MH h0 m S L)) (lo := 0) (hi := e) e0 ?_ ?_ (fun i _ _ => by omega)
    · intro hno
      have newp : ∀ i, 0 ≤ i → i < n → Q i ≠ mdP S L := fun i a b g => by
        obtain ⟨j, j1, j2, j3⟩ := HT_miss x4 hbd ⟨e0, e1⟩ e2 ⟨a, b⟩ (show hshT (Q i) = _ by rw [g]; exact hgg)
        exact hno j j1 j2 (by rw [j3]; exact g)
      refine b_X7_adds_52 C ?_
      generalize hsl : (g0 + e) % 16384 = sl at *
      have hslb : 0 ≤ sl ∧ sl < 16384 := by omega
      simp (disch := omega) only [M_kd, M_ref1, M_kd1, M_ln1, M_get1, M_put1, M_ref2, M_kd2, M_ln2, M_get2, M_put2, M_ref3, M_kd3, M_ln3, M_get3, M_put3, M_ref4, M_kd4, M_ln4, M_get4, M_put4, M_ref5, M_kd5, M_ln5, M_get5, M_put5, M_ref6, M_kd6, M_ln6, M_get6, M_put6, M_ref7, M_kd7, M_ln7, M_get7, M_put7, M_ref8, M_kd8, M_ln8, M_get8, M_put8, M_ref9, M_kd9, M_ln9, M_get9, M_put9, M_ref10, M_kd10, M_ln10, M_get10, M_put10, M_ref11, M_kd11, M_ln11, M_get11, M_put11, M_ref12, M_kd12, M_ln12, M_get12, M_put12, M_ref13, M_kd13, M_ln13, M_get13, M_put13, M_ref14, M_kd14, M_ln14, M_get14, M_put14, M_p526, M_g526, M_p527, M_g527, M_p529, M_g529, M_p530, M_g530, M_p531, M_g531, M_p532, M_g532, M_p533, M_g533, M_p534, M_g534, M_p535, M_g535, M_p536, M_g536, M_p537, M_g537, M_p542, M_g542, M_p545, M_g545, M_p546, M_g546, M_p547, M_g547, M_p548, M_g548, M_p550, M_g550, M_hz, M_hs, jL_mul, jL_add, jL_sub, jL_div, jL_rem, jL_of32, jI_of64, jI_add, jI_sub, jI_mul, jI_div, jI_rem, jI_neg, jI_eq, jI_lt, jI_le, jI_eq0, jI_lt0, jI_0lt, jI_le0, jI_0le, forall_eq, true_and, and_true, or_true, true_or, or_false, false_or, and_false, false_and, not_true_eq_false, not_false_eq_true, false_implies, true_implies, implies_true, Int.reduceEq, Int.reduceLT, Int.reduceLE, Int.reduceAdd, Int.reduceSub, Int.reduceMul, Int.reduceNeg, Int.reduceNe, Nat.reduceEqDiff, Nat.reduceAdd, Int.cast_ofNat_Int, ne_eq, ↓reduceIte, sr_eq, sr_sr, sr_ne, up_up, vp_jI, e2, x1]
      have hfin : ∀ (S' : Nat → Row) (L' : Nat → Int → Int64), S' = sr (sr (sr S 0 (up (S 0) 542 (n + 1))) 10 (up (S 10) n (pkV (mdP S L)))) 11 (up (S 11) sl n) → L' = sr L 9 (upL (upL (upL (upL (L 9) (4 * n) (L 12 0)) (4 * n + 1) (L 12 1)) (4 * n + 2) (L 12 2)) (4 * n + 3) (L 12 3)) → post none (MH h0 m S' L') := by
        intro S' L' eS eL
        have q0 : S' 0 = up (S 0) 542 (n + 1) := by rw [eS]; simp (disch := omega) only [sr_ne, sr_eq]
        have q10 : S' 10 = up (S 10) n (pkV (mdP S L)) := by rw [eS]; simp (disch := omega) only [sr_ne, sr_eq]
        have q11 : S' 11 = up (S 11) sl n := by rw [eS]; simp (disch := omega) only [sr_ne, sr_eq]
        have q13 : S' 13 = S 13 := by rw [eS]; simp (disch := omega) only [sr_ne, sr_eq]
        have q9 : L' 9 = upL (upL (upL (upL (L 9) (4 * n) (L 12 0)) (4 * n + 1) (L 12 1)) (4 * n + 2) (L 12 2)) (4 * n + 3) (L 12 3) := by rw [eL, sr_eq]
        have q12 : L' 12 = L 12 := by rw [eL, sr_ne (by omega)]
        refine hp S' L' (fun k => if k = n then mdP S L else Q k) (n + 1) ⟨by rw [q0, up_eq], by omega, fun k a b => ?_, ?_, fun i j a b c f g => ?_⟩ ⟨fun j hj => by rw [q0, up_ne (by omega)], fun k a b c f => by rw [eS]; simp (disch := omega) only [sr_ne]⟩ ?_ (by omega) (fun i a b => by rw [if_neg (by omega)]) (fun i a b => by rw [if_pos (by omega)]) ⟨n, by omega, by omega, if_pos (Eq.refl _)⟩
        · by_cases g : k = n
          · subst g
            dsimp only
            rw [if_pos (Eq.refl _), q10, q9, up_eq]
            refine ⟨hv, Eq.refl _, fun i c f => ?_⟩
            have h4 : i = 0 ∨ i = 1 ∨ i = 2 ∨ i = 3 := by omega
            rcases h4 with rfl | rfl | rfl | rfl
            · rw [← eH 0 (by omega) (by omega), Int.add_zero, upL_ne (by omega), upL_ne (by omega), upL_ne (by omega), upL_eq]
            · rw [← eH 1 (by omega) (by omega), upL_ne (by omega), upL_ne (by omega), upL_eq]
            · rw [← eH 2 (by omega) (by omega), upL_ne (by omega), upL_eq]
            · rw [← eH 3 (by omega) (by omega), upL_eq]
          · dsimp only
            rw [if_neg g, q10, q9, up_ne g]
            obtain ⟨w1, w2, w3⟩ := x3 k a (by omega)
            refine ⟨w1, w2, fun i c f => ?_⟩
            rw [upL_ne (by omega), upL_ne (by omega), upL_ne (by omega), upL_ne (by omega)]
            exact w3 i c f
        · rw [q11, ← hsl]
          refine HT_ins (hash' := fun k => hshT (if k = n then mdP S L else Q k)) x4 x2 hbd ⟨e0, e1⟩ (by rw [hsl]; exact e2) e3 ?_ (fun k a b => ?_)
          · show hshT (if n = n then mdP S L else Q n) = _
            rw [if_pos (Eq.refl _)]; exact hgg
          · show hshT (if k = n then mdP S L else Q k) = _
            rw [if_neg (by omega)]
        · by_cases g1 : i = n
          · by_cases g2 : j = n
            · omega
            · dsimp only at g
              rw [if_pos g1, if_neg g2] at g
              exact absurd g.symm (newp j c (by omega))
          · by_cases g2 : j = n
            · dsimp only at g
              rw [if_neg g1, if_pos g2] at g
              exact absurd g (newp i a (by omega))
            · dsimp only at g
              rw [if_neg g1, if_neg g2] at g
              exact x5 i j a (by omega) c (by omega) g
        · unfold mdP
          rw [q12, q13, q0, up_ne (by omega), up_ne (by omega), up_ne (by omega), up_ne (by omega)]
      refine b_X7_adds_127 C ?_
      simp (disch := omega) only [M_kd, M_ref1, M_kd1, M_ln1, M_get1, M_put1, M_ref2, M_kd2, M_ln2, M_get2, M_put2, M_ref3, M_kd3, M_ln3, M_get3, M_put3, M_ref4, M_kd4, M_ln4, M_get4, M_put4, M_ref5, M_kd5, M_ln5, M_get5, M_put5, M_ref6, M_kd6, M_ln6, M_get6, M_put6, M_ref7, M_kd7, M_ln7, M_get7, M_put7, M_ref8, M_kd8, M_ln8, M_get8, M_put8, M_ref9, M_kd9, M_ln9, M_get9, M_put9, M_ref10, M_kd10, M_ln10, M_get10, M_put10, M_ref11, M_kd11, M_ln11, M_get11, M_put11, M_ref12, M_kd12, M_ln12, M_get12, M_put12, M_ref13, M_kd13, M_ln13, M_get13, M_put13, M_ref14, M_kd14, M_ln14, M_get14, M_put14, M_p526, M_g526, M_p527, M_g527, M_p529, M_g529, M_p530, M_g530, M_p531, M_g531, M_p532, M_g532, M_p533, M_g533, M_p534, M_g534, M_p535, M_g535, M_p536, M_g536, M_p537, M_g537, M_p542, M_g542, M_p545, M_g545, M_p546, M_g546, M_p547, M_g547, M_p548, M_g548, M_p550, M_g550, M_hz, M_hs, jL_mul, jL_add, jL_sub, jL_div, jL_rem, jL_of32, jI_of64, jI_add, jI_sub, jI_mul, jI_div, jI_rem, jI_neg, jI_eq, jI_lt, jI_le, jI_eq0, jI_lt0, jI_0lt, jI_le0, jI_0le, forall_eq, true_and, and_true, or_true, true_or, or_false, false_or, and_false, false_and, not_true_eq_false, not_false_eq_true, false_implies, true_implies, implies_true, Int.reduceEq, Int.reduceLT, Int.reduceLE, Int.reduceAdd, Int.reduceSub, Int.reduceMul, Int.reduceNeg, Int.reduceNe, Nat.reduceEqDiff, Nat.reduceAdd, Int.cast_ofNat_Int, ne_eq, ↓reduceIte, sr_eq, sr_sr, sr_ne, up_up, vp_jI, sr_lt, x1, Int.add_zero]
      refine b_X7_adds_127 C ?_
      simp (disch := omega) only [M_kd, M_ref1, M_kd1, M_ln1, M_get1, M_put1, M_ref2, M_kd2, M_ln2, M_get2, M_put2, M_ref3, M_kd3, M_ln3, M_get3, M_put3, M_ref4, M_kd4, M_ln4, M_get4, M_put4, M_ref5, M_kd5, M_ln5, M_get5, M_put5, M_ref6, M_kd6, M_ln6, M_get6, M_put6, M_ref7, M_kd7, M_ln7, M_get7, M_put7, M_ref8, M_kd8, M_ln8, M_get8, M_put8, M_ref9, M_kd9, M_ln9, M_get9, M_put9, M_ref10, M_kd10, M_ln10, M_get10, M_put10, M_ref11, M_kd11, M_ln11, M_get11, M_put11, M_ref12, M_kd12, M_ln12, M_get12, M_put12, M_ref13, M_kd13, M_ln13, M_get13, M_put13, M_ref14, M_kd14, M_ln14, M_get14, M_put14, M_p526, M_g526, M_p527, M_g527, M_p529, M_g529, M_p530, M_g530, M_p531, M_g531, M_p532, M_g532, M_p533, M_g533, M_p534, M_g534, M_p535, M_g535, M_p536, M_g536, M_p537, M_g537, M_p542, M_g542, M_p545, M_g545, M_p546, M_g546, M_p547, M_g547, M_p548, M_g548, M_p550, M_g550, M_hz, M_hs, jL_mul, jL_add, jL_sub, jL_div, jL_rem, jL_of32, jI_of64, jI_add, jI_sub, jI_mul, jI_div, jI_rem, jI_neg, jI_eq, jI_lt, jI_le, jI_eq0, jI_lt0, jI_0lt, jI_le0, jI_0le, forall_eq, true_and, and_true, or_true, true_or, or_false, false_or, and_false, false_and, not_true_eq_false, not_false_eq_true, false_implies, true_implies, implies_true, Int.reduceEq, Int.reduceLT, Int.reduceLE, Int.reduceAdd, Int.reduceSub, Int.reduceMul, Int.reduceNeg, Int.reduceNe, Nat.reduceEqDiff, Nat.reduceAdd, Int.cast_ofNat_Int, ne_eq, ↓reduceIte, sr_eq, sr_sr, sr_ne, up_up, vp_jI, sr_lt, x1]
      refine b_X7_adds_127 C ?_
      simp (disch := omega) only [M_kd, M_ref1, M_kd1, M_ln1, M_get1, M_put1, M_ref2, M_kd2, M_ln2, M_get2, M_put2, M_ref3, M_kd3, M_ln3, M_get3, M_put3, M_ref4, M_kd4, M_ln4, M_get4, M_put4, M_ref5, M_kd5, M_ln5, M_get5, M_put5, M_ref6, M_kd6, M_ln6, M_get6, M_put6, M_ref7, M_kd7, M_ln7, M_get7, M_put7, M_ref8, M_kd8, M_ln8, M_get8, M_put8, M_ref9, M_kd9, M_ln9, M_get9, M_put9, M_ref10, M_kd10, M_ln10, M_get10, M_put10, M_ref11, M_kd11, M_ln11, M_get11, M_put11, M_ref12, M_kd12, M_ln12, M_get12, M_put12, M_ref13, M_kd13, M_ln13, M_get13, M_put13, M_ref14, M_kd14, M_ln14, M_get14, M_put14, M_p526, M_g526, M_p527, M_g527, M_p529, M_g529, M_p530, M_g530, M_p531, M_g531, M_p532, M_g532, M_p533, M_g533, M_p534, M_g534, M_p535, M_g535, M_p536, M_g536, M_p537, M_g537, M_p542, M_g542, M_p545, M_g545, M_p546, M_g546, M_p547, M_g547, M_p548, M_g548, M_p550, M_g550, M_hz, M_hs, jL_mul, jL_add, jL_sub, jL_div, jL_rem, jL_of32, jI_of64, jI_add, jI_sub, jI_mul, jI_div, jI_rem, jI_neg, jI_eq, jI_lt, jI_le, jI_eq0, jI_lt0, jI_0lt, jI_le0, jI_0le, forall_eq, true_and, and_true, or_true, true_or, or_false, false_or, and_false, false_and, not_true_eq_false, not_false_eq_true, false_implies, true_implies, implies_true, Int.reduceEq, Int.reduceLT, Int.reduceLE, Int.reduceAdd, Int.reduceSub, Int.reduceMul, Int.reduceNeg, Int.reduceNe, Nat.reduceEqDiff, Nat.reduceAdd, Int.cast_ofNat_Int, ne_eq, ↓reduceIte, sr_eq, sr_sr, sr_ne, up_up, vp_jI, sr_lt, x1]
      refine b_X7_adds_127 C ?_
      simp (disch := omega) only [M_kd, M_ref1, M_kd1, M_ln1, M_get1, M_put1, M_ref2, M_kd2, M_ln2, M_get2, M_put2, M_ref3, M_kd3, M_ln3, M_get3, M_put3, M_ref4, M_kd4, M_ln4, M_get4, M_put4, M_ref5, M_kd5, M_ln5, M_get5, M_put5, M_ref6, M_kd6, M_ln6, M_get6, M_put6, M_ref7, M_kd7, M_ln7, M_get7, M_put7, M_ref8, M_kd8, M_ln8, M_get8, M_put8, M_ref9, M_kd9, M_ln9, M_get9, M_put9, M_ref10, M_kd10, M_ln10, M_get10, M_put10, M_ref11, M_kd11, M_ln11, M_get11, M_put11, M_ref12, M_kd12, M_ln12, M_get12, M_put12, M_ref13, M_kd13, M_ln13, M_get13, M_put13, M_ref14, M_kd14, M_ln14, M_get14, M_put14, M_p526, M_g526, M_p527, M_g527, M_p529, M_g529, M_p530, M_g530, M_p531, M_g531, M_p532, M_g532, M_p533, M_g533, M_p534, M_g534, M_p535, M_g535, M_p536, M_g536, M_p537, M_g537, M_p542, M_g542, M_p545, M_g545, M_p546, M_g546, M_p547, M_g547, M_p548, M_g548, M_p550, M_g550, M_hz, M_hs, jL_mul, jL_add, jL_sub, jL_div, jL_rem, jL_of32, jI_of64, jI_add, jI_sub, jI_mul, jI_div, jI_rem, jI_neg, jI_eq, jI_lt, jI_le, jI_eq0, jI_lt0, jI_0lt, jI_le0, jI_0le, forall_eq, true_and, and_true, or_true, true_or, or_false, false_or, and_false, false_and, not_true_eq_false, not_false_eq_true, false_implies, true_implies, implies_true, Int.reduceEq, Int.reduceLT, Int.reduceLE, Int.reduceAdd, Int.reduceSub, Int.reduceMul, Int.reduceNeg, Int.reduceNe, Nat.reduceEqDiff, Nat.reduceAdd, Int.cast_ofNat_Int, ne_eq, ↓reduceIte, sr_eq, sr_sr, sr_ne, up_up, vp_jI, sr_lt, x1]
      refine b_X7_adds_127 C ?_
      simp (disch := omega) only [M_kd, M_ref1, M_kd1, M_ln1, M_get1, M_put1, M_ref2, M_kd2, M_ln2, M_get2, M_put2, M_ref3, M_kd3, M_ln3, M_get3, M_put3, M_ref4, M_kd4, M_ln4, M_get4, M_put4, M_ref5, M_kd5, M_ln5, M_get5, M_put5, M_ref6, M_kd6, M_ln6, M_get6, M_put6, M_ref7, M_kd7, M_ln7, M_get7, M_put7, M_ref8, M_kd8, M_ln8, M_get8, M_put8, M_ref9, M_kd9, M_ln9, M_get9, M_put9, M_ref10, M_kd10, M_ln10, M_get10, M_put10, M_ref11, M_kd11, M_ln11, M_get11, M_put11, M_ref12, M_kd12, M_ln12, M_get12, M_put12, M_ref13, M_kd13, M_ln13, M_get13, M_put13, M_ref14, M_kd14, M_ln14, M_get14, M_put14, M_p526, M_g526, M_p527, M_g527, M_p529, M_g529, M_p530, M_g530, M_p531, M_g531, M_p532, M_g532, M_p533, M_g533, M_p534, M_g534, M_p535, M_g535, M_p536, M_g536, M_p537, M_g537, M_p542, M_g542, M_p545, M_g545, M_p546, M_g546, M_p547, M_g547, M_p548, M_g548, M_p550, M_g550, M_hz, M_hs, jL_mul, jL_add, jL_sub, jL_div, jL_rem, jL_of32, jI_of64, jI_add, jI_sub, jI_mul, jI_div, jI_rem, jI_neg, jI_eq, jI_lt, jI_le, jI_eq0, jI_lt0, jI_0lt, jI_le0, jI_0le, forall_eq, true_and, and_true, or_true, true_or, or_false, false_or, and_false, false_and, not_true_eq_false, not_false_eq_true, false_implies, true_implies, implies_true, Int.reduceEq, Int.reduceLT, Int.reduceLE, Int.reduceAdd, Int.reduceSub, Int.reduceMul, Int.reduceNeg, Int.reduceNe, Nat.reduceEqDiff, Nat.reduceAdd, Int.cast_ofNat_Int, ne_eq, ↓reduceIte, sr_eq, sr_sr, sr_ne, up_up, vp_jI, sr_lt, x1, Int.le_refl]
      exact hfin _ _ (Eq.refl _) (Eq.refl _)
    · intro j a1 a2 ih hno
      refine b_X7_adds_52 C ?_
      have hT := e3 j a1 a2
      have hTb := x4.1 ((g0 + j) % 16384) (by omega) (by omega)
      have hnx : ((g0 + j) % 16384 + 1) % 16384 = (g0 + (j + 1)) % 16384 := by omega
      generalize hsl : (g0 + j) % 16384 = sl at *
      have hslb : 0 ≤ sl ∧ sl < 16384 := by omega
      simp (disch := omega) only [M_kd, M_ref1, M_kd1, M_ln1, M_get1, M_put1, M_ref2, M_kd2, M_ln2, M_get2, M_put2, M_ref3, M_kd3, M_ln3, M_get3, M_put3, M_ref4, M_kd4, M_ln4, M_get4, M_put4, M_ref5, M_kd5, M_ln5, M_get5, M_put5, M_ref6, M_kd6, M_ln6, M_get6, M_put6, M_ref7, M_kd7, M_ln7, M_get7, M_put7, M_ref8, M_kd8, M_ln8, M_get8, M_put8, M_ref9, M_kd9, M_ln9, M_get9, M_put9, M_ref10, M_kd10, M_ln10, M_get10, M_put10, M_ref11, M_kd11, M_ln11, M_get11, M_put11, M_ref12, M_kd12, M_ln12, M_get12, M_put12, M_ref13, M_kd13, M_ln13, M_get13, M_put13, M_ref14, M_kd14, M_ln14, M_get14, M_put14, M_p526, M_g526, M_p527, M_g527, M_p529, M_g529, M_p530, M_g530, M_p531, M_g531, M_p532, M_g532, M_p533, M_g533, M_p534, M_g534, M_p535, M_g535, M_p536, M_g536, M_p537, M_g537, M_p542, M_g542, M_p545, M_g545, M_p546, M_g546, M_p547, M_g547, M_p548, M_g548, M_p550, M_g550, M_hz, M_hs, jL_mul, jL_add, jL_sub, jL_div, jL_rem, jL_of32, jI_of64, jI_add, jI_sub, jI_mul, jI_div, jI_rem, jI_neg, jI_eq, jI_lt, jI_le, jI_eq0, jI_lt0, jI_0lt, jI_le0, jI_0le, forall_eq, true_and, and_true, or_true, true_or, or_false, false_or, and_false, false_and, not_true_eq_false, not_false_eq_true, false_implies, true_implies, implies_true, Int.reduceEq, Int.reduceLT, Int.reduceLE, Int.reduceAdd, Int.reduceSub, Int.reduceMul, Int.reduceNeg, Int.reduceNe, Nat.reduceEqDiff, Nat.reduceAdd, Int.cast_ofNat_Int, ne_eq, ↓reduceIte, sr_eq, sr_sr, sr_ne, up_up, vp_jI]
      refine ⟨fun g => absurd g hT, fun _ => ?_⟩
      refine m_isSame (by omega) hr hX (by omega) (k := S 11 sl) (by omega) hv eH (fun g => ⟨_, rfl, ?_⟩) (fun g => ⟨_, rfl, ?_⟩)
      · simp (disch := omega) only [M_kd, M_ref1, M_kd1, M_ln1, M_get1, M_put1, M_ref2, M_kd2, M_ln2, M_get2, M_put2, M_ref3, M_kd3, M_ln3, M_get3, M_put3, M_ref4, M_kd4, M_ln4, M_get4, M_put4, M_ref5, M_kd5, M_ln5, M_get5, M_put5, M_ref6, M_kd6, M_ln6, M_get6, M_put6, M_ref7, M_kd7, M_ln7, M_get7, M_put7, M_ref8, M_kd8, M_ln8, M_get8, M_put8, M_ref9, M_kd9, M_ln9, M_get9, M_put9, M_ref10, M_kd10, M_ln10, M_get10, M_put10, M_ref11, M_kd11, M_ln11, M_get11, M_put11, M_ref12, M_kd12, M_ln12, M_get12, M_put12, M_ref13, M_kd13, M_ln13, M_get13, M_put13, M_ref14, M_kd14, M_ln14, M_get14, M_put14, M_p526, M_g526, M_p527, M_g527, M_p529, M_g529, M_p530, M_g530, M_p531, M_g531, M_p532, M_g532, M_p533, M_g533, M_p534, M_g534, M_p535, M_g535, M_p536, M_g536, M_p537, M_g537, M_p542, M_g542, M_p545, M_g545, M_p546, M_g546, M_p547, M_g547, M_p548, M_g548, M_p550, M_g550, M_hz, M_hs, jL_mul, jL_add, jL_sub, jL_div, jL_rem, jL_of32, jI_of64, jI_add, jI_sub, jI_mul, jI_div, jI_rem, jI_neg, jI_eq, jI_lt, jI_le, jI_eq0, jI_lt0, jI_0lt, jI_le0, jI_0le, forall_eq, true_and, and_true, or_true, true_or, or_false, false_or, and_false, false_and, not_true_eq_false, not_false_eq_true, false_implies, true_implies, implies_true, Int.reduceEq, Int.reduceLT, Int.reduceLE, Int.reduceAdd, Int.reduceSub, Int.reduceMul, Int.reduceNeg, Int.reduceNe, Nat.reduceEqDiff, Nat.reduceAdd, Int.cast_ofNat_Int, ne_eq, ↓reduceIte, sr_eq, sr_sr, sr_ne, up_up, vp_jI]
        exact ⟨fun g2 => absurd g2 hT, fun _ => hp S L Q n hX XF.rfl (Eq.refl _) (by omega) (fun _ _ _ => Eq.refl _) (fun i a b => by omega) ⟨S 11 sl, by omega, by omega, g⟩⟩
      · simp (disch := omega) only [M_kd, M_ref1, M_kd1, M_ln1, M_get1, M_put1, M_ref2, M_kd2, M_ln2, M_get2, M_put2, M_ref3, M_kd3, M_ln3, M_get3, M_put3, M_ref4, M_kd4, M_ln4, M_get4, M_put4, M_ref5, M_kd5, M_ln5, M_get5, M_put5, M_ref6, M_kd6, M_ln6, M_get6, M_put6, M_ref7, M_kd7, M_ln7, M_get7, M_put7, M_ref8, M_kd8, M_ln8, M_get8, M_put8, M_ref9, M_kd9, M_ln9, M_get9, M_put9, M_ref10, M_kd10, M_ln10, M_get10, M_put10, M_ref11, M_kd11, M_ln11, M_get11, M_put11, M_ref12, M_kd12, M_ln12, M_get12, M_put12, M_ref13, M_kd13, M_ln13, M_get13, M_put13, M_ref14, M_kd14, M_ln14, M_get14, M_put14, M_p526, M_g526, M_p527, M_g527, M_p529, M_g529, M_p530, M_g530, M_p531, M_g531, M_p532, M_g532, M_p533, M_g533, M_p534, M_g534, M_p535, M_g535, M_p536, M_g536, M_p537, M_g537, M_p542, M_g542, M_p545, M_g545, M_p546, M_g546, M_p547, M_g547, M_p548, M_g548, M_p550, M_g550, M_hz, M_hs, jL_mul, jL_add, jL_sub, jL_div, jL_rem, jL_of32, jI_of64, jI_add, jI_sub, jI_mul, jI_div, jI_rem, jI_neg, jI_eq, jI_lt, jI_le, jI_eq0, jI_lt0, jI_0lt, jI_le0, jI_0le, forall_eq, true_and, and_true, or_true, true_or, or_false, false_or, and_false, false_and, not_true_eq_false, not_false_eq_true, false_implies, true_implies, implies_true, Int.reduceEq, Int.reduceLT, Int.reduceLE, Int.reduceAdd, Int.reduceSub, Int.reduceMul, Int.reduceNeg, Int.reduceNe, Nat.reduceEqDiff, Nat.reduceAdd, Int.cast_ofNat_Int, ne_eq, ↓reduceIte, sr_eq, sr_sr, sr_ne, up_up, vp_jI]
        rw [j_and14 (by omega), hnx]
        refine ih (fun i b1 b2 => ?_)
        by_cases g2 : i = j
        · subst g2; rw [hsl]; exact g
        · exact hno i b1 (by omega)
  have key := up_loop (P := fun k => V 11 [(0, vR m), (1, vI (jI (pkV (mdP S L)))), (2, vJ (cdT (mdP S L) k.toNat)), (4, vI (jI k))] [] (MH h0 m S L)) (lo := 0) (hi := 4) (by omega) ?_ ?_
  · exact key
  · refine b_X7_adds_11 C ?_
    simp (disch := omega) only [M_kd, M_ref1, M_kd1, M_ln1, M_get1, M_put1, M_ref2, M_kd2, M_ln2, M_get2, M_put2, M_ref3, M_kd3, M_ln3, M_get3, M_put3, M_ref4, M_kd4, M_ln4, M_get4, M_put4, M_ref5, M_kd5, M_ln5, M_get5, M_put5, M_ref6, M_kd6, M_ln6, M_get6, M_put6, M_ref7, M_kd7, M_ln7, M_get7, M_put7, M_ref8, M_kd8, M_ln8, M_get8, M_put8, M_ref9, M_kd9, M_ln9, M_get9, M_put9, M_ref10, M_kd10, M_ln10, M_get10, M_put10, M_ref11, M_kd11, M_ln11, M_get11, M_put11, M_ref12, M_kd12, M_ln12, M_get12, M_put12, M_ref13, M_kd13, M_ln13, M_get13, M_put13, M_ref14, M_kd14, M_ln14, M_get14, M_put14, M_p526, M_g526, M_p527, M_g527, M_p529, M_g529, M_p530, M_g530, M_p531, M_g531, M_p532, M_g532, M_p533, M_g533, M_p534, M_g534, M_p535, M_g535, M_p536, M_g536, M_p537, M_g537, M_p542, M_g542, M_p545, M_g545, M_p546, M_g546, M_p547, M_g547, M_p548, M_g548, M_p550, M_g550, M_hz, M_hs, jL_mul, jL_add, jL_sub, jL_div, jL_rem, jL_of32, jI_of64, jI_add, jI_sub, jI_mul, jI_div, jI_rem, jI_neg, jI_eq, jI_lt, jI_le, jI_eq0, jI_lt0, jI_0lt, jI_le0, jI_0le, forall_eq, true_and, and_true, or_true, true_or, or_false, false_or, and_false, false_and, not_true_eq_false, not_false_eq_true, false_implies, true_implies, implies_true, Int.reduceEq, Int.reduceLT, Int.reduceLE, Int.reduceAdd, Int.reduceSub, Int.reduceMul, Int.reduceNeg, Int.reduceNe, Nat.reduceEqDiff, Nat.reduceAdd, Int.cast_ofNat_Int, ne_eq, ↓reduceIte, sr_eq, sr_sr, sr_ne, up_up, vp_jI, Int.le_refl]
    have eh : ((Int64.toInt32 (jlushr (cdT (mdP S L) (4 : Int).toNat * jL 25214903917) (jI 40))) &&& jI 16383) = jI ((g0 + 0) % 16384) := by
      have : jI (hshT (mdP S L)) = ((Int64.toInt32 (jlushr (cdT (mdP S L) 4 * jL 25214903917) (jI 40))) &&& jI 16383) := jI_of _
      rw [hgg] at this
      rw [show (g0 + 0) % 16384 = g0 by omega, this]; rfl
    rw [eh]; exact v52
  · intro k a1 a2 ih
    refine b_X7_adds_11 C ?_
    have ek := eH k a1 a2
    rw [show (k + 1).toNat = k.toNat + 1 by omega] at ih
    have e9 : cdT (mdP S L) (k.toNat + 1) = cdT (mdP S L) k.toNat * jL 1000003 + L 12 k := by
      show _ * _ + pH (mdP S L) (k.toNat : Int) = _
      rw [ek, show ((k.toNat : Nat) : Int) = k by omega]
    rw [e9] at ih
    simp (disch := omega) only [M_kd, M_ref1, M_kd1, M_ln1, M_get1, M_put1, M_ref2, M_kd2, M_ln2, M_get2, M_put2, M_ref3, M_kd3, M_ln3, M_get3, M_put3, M_ref4, M_kd4, M_ln4, M_get4, M_put4, M_ref5, M_kd5, M_ln5, M_get5, M_put5, M_ref6, M_kd6, M_ln6, M_get6, M_put6, M_ref7, M_kd7, M_ln7, M_get7, M_put7, M_ref8, M_kd8, M_ln8, M_get8, M_put8, M_ref9, M_kd9, M_ln9, M_get9, M_put9, M_ref10, M_kd10, M_ln10, M_get10, M_put10, M_ref11, M_kd11, M_ln11, M_get11, M_put11, M_ref12, M_kd12, M_ln12, M_get12, M_put12, M_ref13, M_kd13, M_ln13, M_get13, M_put13, M_ref14, M_kd14, M_ln14, M_get14, M_put14, M_p526, M_g526, M_p527, M_g527, M_p529, M_g529, M_p530, M_g530, M_p531, M_g531, M_p532, M_g532, M_p533, M_g533, M_p534, M_g534, M_p535, M_g535, M_p536, M_g536, M_p537, M_g537, M_p542, M_g542, M_p545, M_g545, M_p546, M_g546, M_p547, M_g547, M_p548, M_g548, M_p550, M_g550, M_hz, M_hs, jL_mul, jL_add, jL_sub, jL_div, jL_rem, jL_of32, jI_of64, jI_add, jI_sub, jI_mul, jI_div, jI_rem, jI_neg, jI_eq, jI_lt, jI_le, jI_eq0, jI_lt0, jI_0lt, jI_le0, jI_0le, forall_eq, true_and, and_true, or_true, true_or, or_false, false_or, and_false, false_and, not_true_eq_false, not_false_eq_true, false_implies, true_implies, implies_true, Int.reduceEq, Int.reduceLT, Int.reduceLE, Int.reduceAdd, Int.reduceSub, Int.reduceMul, Int.reduceNeg, Int.reduceNe, Nat.reduceEqDiff, Nat.reduceAdd, Int.cast_ofNat_Int, ne_eq, ↓reduceIte, sr_eq, sr_sr, sr_ne, up_up, vp_jI]
    exact ⟨fun g => absurd g (by omega), fun _ => ih⟩
theorem m_isFinal (hd : 9 ≤ d) (hr : RX (S 1)) (hv : VP (S 1) (mdP S L)) (h1 : finalP (S 1) (mdP S L) → post (some (.int (jI 1))) (MH h0 m S L)) (h2 : ¬ finalP (S 1) (mdP S L) → post (some (.int (jI 0))) (MH h0 m S L)) : D G l d mX7_isFinal [vR m] (MH h0 m S L) post xp := by
  obtain ⟨hk, hr2, hr6, hkc⟩ := hr
  obtain ⟨v1, v2, v3, v4, v5, v6, v7⟩ := id hv
  have h0b := hk.1
  have h1b := hk.2.1
  have hL : pL (mdP S L) = S 0 548 := rfl
  have hPi : ∀ i, 0 ≤ i → i < 4 → pP (mdP S L) i = S 13 i := fun i a b => mk_P ⟨a, b⟩
  rw [hL] at v5 v6
  refine D_in (by omega) rfl rfl fun V XV C => b_X7_isFinal_0 C ?_
  refine up_loop (P := fun c => ∀ a : Int, (a = 0 ∨ a = 1) → (a = 1 ↔ ∀ i, 0 ≤ i → i < c → pP (mdP S L) i = S 1 1) → V 4 [(0, vR m), (1, vI (jI a)), (2, vI (jI c))] [] (MH h0 m S L)) (lo := 0) (hi := S 1 0) h0b.1 ?_ ?_ 1 (Or.inr rfl) ⟨fun _ i _ _ => by omega, fun _ => rfl⟩
  · intro a ha hiff
    refine b_X7_isFinal_4 C ?_
    simp (disch := omega) only [M_kd, M_ref1, M_kd1, M_ln1, M_get1, M_put1, M_ref2, M_kd2, M_ln2, M_get2, M_put2, M_ref3, M_kd3, M_ln3, M_get3, M_put3, M_ref4, M_kd4, M_ln4, M_get4, M_put4, M_ref5, M_kd5, M_ln5, M_get5, M_put5, M_ref6, M_kd6, M_ln6, M_get6, M_put6, M_ref7, M_kd7, M_ln7, M_get7, M_put7, M_ref8, M_kd8, M_ln8, M_get8, M_put8, M_ref9, M_kd9, M_ln9, M_get9, M_put9, M_ref10, M_kd10, M_ln10, M_get10, M_put10, M_ref11, M_kd11, M_ln11, M_get11, M_put11, M_ref12, M_kd12, M_ln12, M_get12, M_put12, M_ref13, M_kd13, M_ln13, M_get13, M_put13, M_ref14, M_kd14, M_ln14, M_get14, M_put14, M_p526, M_g526, M_p527, M_g527, M_p529, M_g529, M_p530, M_g530, M_p531, M_g531, M_p532, M_g532, M_p533, M_g533, M_p534, M_g534, M_p535, M_g535, M_p536, M_g536, M_p537, M_g537, M_p542, M_g542, M_p545, M_g545, M_p546, M_g546, M_p547, M_g547, M_p548, M_g548, M_p550, M_g550, M_hz, M_hs, jL_mul, jL_add, jL_sub, jL_div, jL_rem, jL_of32, jI_of64, jI_add, jI_sub, jI_mul, jI_div, jI_rem, jI_neg, jI_eq, jI_lt, jI_le, jI_eq0, jI_lt0, jI_0lt, jI_le0, jI_0le, forall_eq, true_and, and_true, or_true, true_or, or_false, false_or, and_false, false_and, not_true_eq_false, not_false_eq_true, false_implies, true_implies, implies_true, Int.reduceEq, Int.reduceLT, Int.reduceLE, Int.reduceAdd, Int.reduceSub, Int.reduceMul, Int.reduceNeg, Int.reduceNe, Nat.reduceEqDiff, Nat.reduceAdd, Int.cast_ofNat_Int, ne_eq, ↓reduceIte, sr_eq, sr_sr, sr_ne, up_up, vp_jI, Int.le_refl]
    refine ⟨fun g => h1 (Or.inl (hiff.mp (by omega))), fun g => ⟨fun g2 => h2 (fun f => ?_), fun g2 => h1 (Or.inr g2)⟩⟩
    rcases f with f | f
    · have := hiff.mpr f; omega
    · exact g2 f
  · intro c a1 a2 ih a ha hiff
    refine b_X7_isFinal_4 C ?_
    have hc := v1 c a1 (by omega)
    have hcc := hPi c a1 (by omega)
    rw [hcc] at hc
    have ext : ∀ b : Int, (b = 0 ∨ b = 1) → (b = 1 ↔ a = 1 ∧ S 13 c = S 1 1) → V 4 [(0, vR m), (1, vI (jI b)), (2, vI (jI (c + 1)))] [] (MH h0 m S L) := fun b hb hbi => ih b hb (by
      rw [hbi, hiff]
      exact ⟨fun q i b1 b2 => by
        by_cases g : i = c
        · subst g; rw [hcc]; exact q.2
        · exact q.1 i b1 (by omega), fun q => ⟨fun i b1 b2 => q i b1 (by omega), by rw [← hcc]; exact q c a1 (by omega)⟩⟩)
    simp (disch := omega) only [M_kd, M_ref1, M_kd1, M_ln1, M_get1, M_put1, M_ref2, M_kd2, M_ln2, M_get2, M_put2, M_ref3, M_kd3, M_ln3, M_get3, M_put3, M_ref4, M_kd4, M_ln4, M_get4, M_put4, M_ref5, M_kd5, M_ln5, M_get5, M_put5, M_ref6, M_kd6, M_ln6, M_get6, M_put6, M_ref7, M_kd7, M_ln7, M_get7, M_put7, M_ref8, M_kd8, M_ln8, M_get8, M_put8, M_ref9, M_kd9, M_ln9, M_get9, M_put9, M_ref10, M_kd10, M_ln10, M_get10, M_put10, M_ref11, M_kd11, M_ln11, M_get11, M_put11, M_ref12, M_kd12, M_ln12, M_get12, M_put12, M_ref13, M_kd13, M_ln13, M_get13, M_put13, M_ref14, M_kd14, M_ln14, M_get14, M_put14, M_p526, M_g526, M_p527, M_g527, M_p529, M_g529, M_p530, M_g530, M_p531, M_g531, M_p532, M_g532, M_p533, M_g533, M_p534, M_g534, M_p535, M_g535, M_p536, M_g536, M_p537, M_g537, M_p542, M_g542, M_p545, M_g545, M_p546, M_g546, M_p547, M_g547, M_p548, M_g548, M_p550, M_g550, M_hz, M_hs, jL_mul, jL_add, jL_sub, jL_div, jL_rem, jL_of32, jI_of64, jI_add, jI_sub, jI_mul, jI_div, jI_rem, jI_neg, jI_eq, jI_lt, jI_le, jI_eq0, jI_lt0, jI_0lt, jI_le0, jI_0le, forall_eq, true_and, and_true, or_true, true_or, or_false, false_or, and_false, false_and, not_true_eq_false, not_false_eq_true, false_implies, true_implies, implies_true, Int.reduceEq, Int.reduceLT, Int.reduceLE, Int.reduceAdd, Int.reduceSub, Int.reduceMul, Int.reduceNeg, Int.reduceNe, Nat.reduceEqDiff, Nat.reduceAdd, Int.cast_ofNat_Int, ne_eq, ↓reduceIte, sr_eq, sr_sr, sr_ne, up_up, vp_jI]
    refine ⟨fun g => absurd g (by omega), fun _ => ⟨fun g => ext 0 (Or.inl rfl) (by omega), fun g => ⟨fun g2 => ext 0 (Or.inl rfl) ⟨fun q => by omega, fun q => absurd q.2 g2⟩, fun g2 => ext 1 (Or.inr rfl) ⟨fun _ => ⟨by omega, g2⟩, fun _ => rfl⟩⟩⟩⟩
theorem m_canPlay (hd : 11 ≤ d) (hr : RX (S 1)) (hv : VP (S 1) (mdP S L)) {c : Int} (hc : 0 ≤ c ∧ c < S 1 4) (h1 : playC (S 1) (mdP S L) c → post (some (.int (jI 1))) (MH h0 m S L)) (h2 : ¬ playC (S 1) (mdP S L) c → post (some (.int (jI 0))) (MH h0 m S L)) : D G l d mX7_canPlay [vR m, vI (jI c)] (MH h0 m S L) post xp := by
  obtain ⟨hk, hr2, hr6, hkc⟩ := hr
  have h4 := hk.2.2.1
  have hkk := hk.2.2.2.2.1 c hc.1 (by omega)
  have hcb := col_bd hkk
  have hrb := rnk_bd hkk
  have hpp : pP (mdP S L) (colR (S 1 (27 + c))) = S 13 (colR (S 1 (27 + c))) := mk_P ⟨hcb.1, hcb.2⟩
  have h1b := hk.2.1
  have hpb := hv.1 (colR (S 1 (27 + c))) hcb.1 hcb.2
  rw [hpp] at hpb
  unfold playC itsR at h1 h2
  rw [hpp] at h1 h2
  refine t_X7_canPlay (by omega) ?_
  simp (disch := omega) only [M_kd, M_ref1, M_kd1, M_ln1, M_get1, M_put1, M_ref2, M_kd2, M_ln2, M_get2, M_put2, M_ref3, M_kd3, M_ln3, M_get3, M_put3, M_ref4, M_kd4, M_ln4, M_get4, M_put4, M_ref5, M_kd5, M_ln5, M_get5, M_put5, M_ref6, M_kd6, M_ln6, M_get6, M_put6, M_ref7, M_kd7, M_ln7, M_get7, M_put7, M_ref8, M_kd8, M_ln8, M_get8, M_put8, M_ref9, M_kd9, M_ln9, M_get9, M_put9, M_ref10, M_kd10, M_ln10, M_get10, M_put10, M_ref11, M_kd11, M_ln11, M_get11, M_put11, M_ref12, M_kd12, M_ln12, M_get12, M_put12, M_ref13, M_kd13, M_ln13, M_get13, M_put13, M_ref14, M_kd14, M_ln14, M_get14, M_put14, M_p526, M_g526, M_p527, M_g527, M_p529, M_g529, M_p530, M_g530, M_p531, M_g531, M_p532, M_g532, M_p533, M_g533, M_p534, M_g534, M_p535, M_g535, M_p536, M_g536, M_p537, M_g537, M_p542, M_g542, M_p545, M_g545, M_p546, M_g546, M_p547, M_g547, M_p548, M_g548, M_p550, M_g550, M_hz, M_hs, jL_mul, jL_add, jL_sub, jL_div, jL_rem, jL_of32, jI_of64, jI_add, jI_sub, jI_mul, jI_div, jI_rem, jI_neg, jI_eq, jI_lt, jI_le, jI_eq0, jI_lt0, jI_0lt, jI_le0, jI_0le, forall_eq, true_and, and_true, or_true, true_or, or_false, false_or, and_false, false_and, not_true_eq_false, not_false_eq_true, false_implies, true_implies, implies_true, Int.reduceEq, Int.reduceLT, Int.reduceLE, Int.reduceAdd, Int.reduceSub, Int.reduceMul, Int.reduceNeg, Int.reduceNe, Nat.reduceEqDiff, Nat.reduceAdd, Int.cast_ofNat_Int, ne_eq, ↓reduceIte, sr_eq, sr_sr, sr_ne, up_up, vp_jI]
  refine m_rankOf (by omega) hkk.1 (by omega) ⟨_, rfl, ?_⟩
  simp (disch := omega) only [M_kd, M_ref1, M_kd1, M_ln1, M_get1, M_put1, M_ref2, M_kd2, M_ln2, M_get2, M_put2, M_ref3, M_kd3, M_ln3, M_get3, M_put3, M_ref4, M_kd4, M_ln4, M_get4, M_put4, M_ref5, M_kd5, M_ln5, M_get5, M_put5, M_ref6, M_kd6, M_ln6, M_get6, M_put6, M_ref7, M_kd7, M_ln7, M_get7, M_put7, M_ref8, M_kd8, M_ln8, M_get8, M_put8, M_ref9, M_kd9, M_ln9, M_get9, M_put9, M_ref10, M_kd10, M_ln10, M_get10, M_put10, M_ref11, M_kd11, M_ln11, M_get11, M_put11, M_ref12, M_kd12, M_ln12, M_get12, M_put12, M_ref13, M_kd13, M_ln13, M_get13, M_put13, M_ref14, M_kd14, M_ln14, M_get14, M_put14, M_p526, M_g526, M_p527, M_g527, M_p529, M_g529, M_p530, M_g530, M_p531, M_g531, M_p532, M_g532, M_p533, M_g533, M_p534, M_g534, M_p535, M_g535, M_p536, M_g536, M_p537, M_g537, M_p542, M_g542, M_p545, M_g545, M_p546, M_g546, M_p547, M_g547, M_p548, M_g548, M_p550, M_g550, M_hz, M_hs, jL_mul, jL_add, jL_sub, jL_div, jL_rem, jL_of32, jI_of64, jI_add, jI_sub, jI_mul, jI_div, jI_rem, jI_neg, jI_eq, jI_lt, jI_le, jI_eq0, jI_lt0, jI_0lt, jI_le0, jI_0le, forall_eq, true_and, and_true, or_true, true_or, or_false, false_or, and_false, false_and, not_true_eq_false, not_false_eq_true, false_implies, true_implies, implies_true, Int.reduceEq, Int.reduceLT, Int.reduceLE, Int.reduceAdd, Int.reduceSub, Int.reduceMul, Int.reduceNeg, Int.reduceNe, Nat.reduceEqDiff, Nat.reduceAdd, Int.cast_ofNat_Int, ne_eq, ↓reduceIte, sr_eq, sr_sr, sr_ne, up_up, vp_jI]
  refine m_colorOf (by omega) hkk.1 (by omega) ⟨_, rfl, ?_⟩
  simp (disch := omega) only [M_kd, M_ref1, M_kd1, M_ln1, M_get1, M_put1, M_ref2, M_kd2, M_ln2, M_get2, M_put2, M_ref3, M_kd3, M_ln3, M_get3, M_put3, M_ref4, M_kd4, M_ln4, M_get4, M_put4, M_ref5, M_kd5, M_ln5, M_get5, M_put5, M_ref6, M_kd6, M_ln6, M_get6, M_put6, M_ref7, M_kd7, M_ln7, M_get7, M_put7, M_ref8, M_kd8, M_ln8, M_get8, M_put8, M_ref9, M_kd9, M_ln9, M_get9, M_put9, M_ref10, M_kd10, M_ln10, M_get10, M_put10, M_ref11, M_kd11, M_ln11, M_get11, M_put11, M_ref12, M_kd12, M_ln12, M_get12, M_put12, M_ref13, M_kd13, M_ln13, M_get13, M_put13, M_ref14, M_kd14, M_ln14, M_get14, M_put14, M_p526, M_g526, M_p527, M_g527, M_p529, M_g529, M_p530, M_g530, M_p531, M_g531, M_p532, M_g532, M_p533, M_g533, M_p534, M_g534, M_p535, M_g535, M_p536, M_g536, M_p537, M_g537, M_p542, M_g542, M_p545, M_g545, M_p546, M_g546, M_p547, M_g547, M_p548, M_g548, M_p550, M_g550, M_hz, M_hs, jL_mul, jL_add, jL_sub, jL_div, jL_rem, jL_of32, jI_of64, jI_add, jI_sub, jI_mul, jI_div, jI_rem, jI_neg, jI_eq, jI_lt, jI_le, jI_eq0, jI_lt0, jI_0lt, jI_le0, jI_0le, forall_eq, true_and, and_true, or_true, true_or, or_false, false_or, and_false, false_and, not_true_eq_false, not_false_eq_true, false_implies, true_implies, implies_true, Int.reduceEq, Int.reduceLT, Int.reduceLE, Int.reduceAdd, Int.reduceSub, Int.reduceMul, Int.reduceNeg, Int.reduceNe, Nat.reduceEqDiff, Nat.reduceAdd, Int.cast_ofNat_Int, ne_eq, ↓reduceIte, sr_eq, sr_sr, sr_ne, up_up, vp_jI]
  exact ⟨fun g => h2 g, fun g => h1 g⟩
theorem m_scoreMade (hd : 9 ≤ d) (hp : post (some (.int (jI (scoreP (mdP S L))))) (MH h0 m S L)) : D G l d mX7_scoreMade [vR m] (MH h0 m S L) post xp := by
  refine D_in (by omega) rfl rfl fun V XV C => b_X7_scoreMade_0 C ?_
  have key := up_loop (P := fun j => V 4 [(0, vR m), (1, vI (jI (su 0 j (pP (mdP S L))))), (2, vI (jI j))] [] (MH h0 m S L)) (lo := 0) (hi := 4) (by omega) ?_ ?_
  · rw [su_self] at key; exact key
  · refine b_X7_scoreMade_4 C ?_
    simp (disch := omega) only [M_kd, M_ref1, M_kd1, M_ln1, M_get1, M_put1, M_ref2, M_kd2, M_ln2, M_get2, M_put2, M_ref3, M_kd3, M_ln3, M_get3, M_put3, M_ref4, M_kd4, M_ln4, M_get4, M_put4, M_ref5, M_kd5, M_ln5, M_get5, M_put5, M_ref6, M_kd6, M_ln6, M_get6, M_put6, M_ref7, M_kd7, M_ln7, M_get7, M_put7, M_ref8, M_kd8, M_ln8, M_get8, M_put8, M_ref9, M_kd9, M_ln9, M_get9, M_put9, M_ref10, M_kd10, M_ln10, M_get10, M_put10, M_ref11, M_kd11, M_ln11, M_get11, M_put11, M_ref12, M_kd12, M_ln12, M_get12, M_put12, M_ref13, M_kd13, M_ln13, M_get13, M_put13, M_ref14, M_kd14, M_ln14, M_get14, M_put14, M_p526, M_g526, M_p527, M_g527, M_p529, M_g529, M_p530, M_g530, M_p531, M_g531, M_p532, M_g532, M_p533, M_g533, M_p534, M_g534, M_p535, M_g535, M_p536, M_g536, M_p537, M_g537, M_p542, M_g542, M_p545, M_g545, M_p546, M_g546, M_p547, M_g547, M_p548, M_g548, M_p550, M_g550, M_hz, M_hs, jL_mul, jL_add, jL_sub, jL_div, jL_rem, jL_of32, jI_of64, jI_add, jI_sub, jI_mul, jI_div, jI_rem, jI_neg, jI_eq, jI_lt, jI_le, jI_eq0, jI_lt0, jI_0lt, jI_le0, jI_0le, forall_eq, true_and, and_true, or_true, true_or, or_false, false_or, and_false, false_and, not_true_eq_false, not_false_eq_true, false_implies, true_implies, implies_true, Int.reduceEq, Int.reduceLT, Int.reduceLE, Int.reduceAdd, Int.reduceSub, Int.reduceMul, Int.reduceNeg, Int.reduceNe, Nat.reduceEqDiff, Nat.reduceAdd, Int.cast_ofNat_Int, ne_eq, ↓reduceIte, sr_eq, sr_sr, sr_ne, up_up, vp_jI, Int.le_refl]
    exact hp
  · intro j h1 h2 ih
    refine b_X7_scoreMade_4 C ?_
    have e : pP (mdP S L) j = S 13 j := mk_P ⟨h1, h2⟩
    rw [su_succ h1, e] at ih
    simp (disch := omega) only [M_kd, M_ref1, M_kd1, M_ln1, M_get1, M_put1, M_ref2, M_kd2, M_ln2, M_get2, M_put2, M_ref3, M_kd3, M_ln3, M_get3, M_put3, M_ref4, M_kd4, M_ln4, M_get4, M_put4, M_ref5, M_kd5, M_ln5, M_get5, M_put5, M_ref6, M_kd6, M_ln6, M_get6, M_put6, M_ref7, M_kd7, M_ln7, M_get7, M_put7, M_ref8, M_kd8, M_ln8, M_get8, M_put8, M_ref9, M_kd9, M_ln9, M_get9, M_put9, M_ref10, M_kd10, M_ln10, M_get10, M_put10, M_ref11, M_kd11, M_ln11, M_get11, M_put11, M_ref12, M_kd12, M_ln12, M_get12, M_put12, M_ref13, M_kd13, M_ln13, M_get13, M_put13, M_ref14, M_kd14, M_ln14, M_get14, M_put14, M_p526, M_g526, M_p527, M_g527, M_p529, M_g529, M_p530, M_g530, M_p531, M_g531, M_p532, M_g532, M_p533, M_g533, M_p534, M_g534, M_p535, M_g535, M_p536, M_g536, M_p537, M_g537, M_p542, M_g542, M_p545, M_g545, M_p546, M_g546, M_p547, M_g547, M_p548, M_g548, M_p550, M_g550, M_hz, M_hs, jL_mul, jL_add, jL_sub, jL_div, jL_rem, jL_of32, jI_of64, jI_add, jI_sub, jI_mul, jI_div, jI_rem, jI_neg, jI_eq, jI_lt, jI_le, jI_eq0, jI_lt0, jI_0lt, jI_le0, jI_0le, forall_eq, true_and, and_true, or_true, true_or, or_false, false_or, and_false, false_and, not_true_eq_false, not_false_eq_true, false_implies, true_implies, implies_true, Int.reduceEq, Int.reduceLT, Int.reduceLE, Int.reduceAdd, Int.reduceSub, Int.reduceMul, Int.reduceNeg, Int.reduceNe, Nat.reduceEqDiff, Nat.reduceAdd, Int.cast_ofNat_Int, ne_eq, ↓reduceIte, sr_eq, sr_sr, sr_ne, up_up, vp_jI]
    exact ⟨fun e => absurd e (by omega), fun _ => ih⟩
end TWO
section TWP
variable {G : Wd} {l : Launch} {d : Nat} {post : Option Value → VH → Prop} {xp : Nat → VH → Prop} {h0 h : VH} {m : Nat} {S : Nat → Row} {L : Nat → Int → Int64} {Q : Int → Pos} {n : Int}
theorem m_moves (hd : 11 ≤ d) (hr : RX (S 1)) (hv : VP (S 1) (mdP S L)) {kind c : Int} (ho : okP (S 1) kind c (mdP S L)) (hl0 : pL (mdP S L) ≠ 0)
    (hp : ∀ S' L', XM S S' L L' → mdP S' L' = mvP (S 1) kind c (mdP S L) → post none (MH h0 m S' L')) : D G l d mX7_moves [vR m, vI (jI kind), vI (jI c)] (MH h0 m S L) post xp := by
  obtain ⟨hk, hr2, hr6, hkc⟩ := hr
  obtain ⟨v1, v2, v3, v4, v5, v6, v7⟩ := id hv
  have h4 := hk.2.2.1
  have eT : pT (mdP S L) = S 0 545 := rfl
  have eN : pN (mdP S L) = S 0 546 := rfl
  have eU : pU (mdP S L) = S 0 547 := rfl
  have eL : pL (mdP S L) = S 0 548 := rfl
  rw [eT] at v2
  rw [eN] at v3 v6
  rw [eU] at v4
  rw [eL] at v5 v6 hl0
  have hkd : 0 ≤ kind ∧ kind ≤ 3 := by rcases ho with h | h | h | h <;> omega
  refine D_in (by omega) rfl rfl fun V XV C => b_X7_moves_0 C ?_
  -- the end
  have t212 : ∀ (S1 : Nat → Row) (L1 : Nat → Int → Int64), XM S S1 L L1 → S1 0 547 = S 0 547 → mkP (L1 12) (S1 13) (S1 0 545) (S1 0 546) ((S 0 547 + 1) % S 1 2) (S1 0 548) = mvP (S 1) kind c (mdP S L) → V 212 [(0, vR m)] [] (MH h0 m S1 L1) := by
    intro S1 L1 hm hu he
    have e1 : S1 1 = S 1 := hm.1.2 1 (by omega) (by omega) (by omega) (by omega)
    refine b_X7_moves_212 C ?_
    simp (disch := omega) only [M_kd, M_ref1, M_kd1, M_ln1, M_get1, M_put1, M_ref2, M_kd2, M_ln2, M_get2, M_put2, M_ref3, M_kd3, M_ln3, M_get3, M_put3, M_ref4, M_kd4, M_ln4, M_get4, M_put4, M_ref5, M_kd5, M_ln5, M_get5, M_put5, M_ref6, M_kd6, M_ln6, M_get6, M_put6, M_ref7, M_kd7, M_ln7, M_get7, M_put7, M_ref8, M_kd8, M_ln8, M_get8, M_put8, M_ref9, M_kd9, M_ln9, M_get9, M_put9, M_ref10, M_kd10, M_ln10, M_get10, M_put10, M_ref11, M_kd11, M_ln11, M_get11, M_put11, M_ref12, M_kd12, M_ln12, M_get12, M_put12, M_ref13, M_kd13, M_ln13, M_get13, M_put13, M_ref14, M_kd14, M_ln14, M_get14, M_put14, M_p526, M_g526, M_p527, M_g527, M_p529, M_g529, M_p530, M_g530, M_p531, M_g531, M_p532, M_g532, M_p533, M_g533, M_p534, M_g534, M_p535, M_g535, M_p536, M_g536, M_p537, M_g537, M_p542, M_g542, M_p545, M_g545, M_p546, M_g546, M_p547, M_g547, M_p548, M_g548, M_p550, M_g550, M_hz, M_hs, jL_mul, jL_add, jL_sub, jL_div, jL_rem, jL_of32, jI_of64, jI_add, jI_sub, jI_mul, jI_div, jI_rem, jI_neg, jI_eq, jI_lt, jI_le, jI_eq0, jI_lt0, jI_0lt, jI_le0, jI_0le, forall_eq, true_and, and_true, or_true, true_or, or_false, false_or, and_false, false_and, not_true_eq_false, not_false_eq_true, false_implies, true_implies, implies_true, Int.reduceEq, Int.reduceLT, Int.reduceLE, Int.reduceAdd, Int.reduceSub, Int.reduceMul, Int.reduceNeg, Int.reduceNe, Nat.reduceEqDiff, Nat.reduceAdd, Int.cast_ofNat_Int, ne_eq, ↓reduceIte, sr_eq, sr_sr, sr_ne, up_up, vp_jI, e1, hu]
    refine ⟨by omega, hp _ _ (hm.trans ⟨⟨fun j hj => ?_, fun k a b c f => ?_⟩, ?_, ?_, ?_, rfl⟩) ?_⟩
    · simp (disch := omega) only [sr_eq, up_ne]
    · rw [sr_ne a]
    · simp (disch := omega) only [sr_eq, up_ne]
    · rw [sr_ne (by omega)]
    · rw [sr_ne (by omega)]
    · unfold mdP
      simp (disch := omega) only [sr_ne, sr_eq, up_ne, up_eq]
      exact he
  have t145 : ∀ (S1 : Nat → Row) (L1 : Nat → Int → Int64) (dr : Int), (dr = 0 ∨ dr = 1) → XM S S1 L L1 → S1 0 547 = S 0 547 → S1 0 548 = S 0 548 → (0 ≤ S1 0 545 ∧ S1 0 545 ≤ 100) → (0 ≤ S1 0 546 ∧ S1 0 546 ≤ 100) →
      mkP (L1 12) (S1 13) (S1 0 545 - (if kind = 2 then 1 else 0)) (S1 0 546) ((S 0 547 + 1) % S 1 2) (if S 0 548 ≠ -1 then S 0 548 - 1 else if dr = 1 ∧ S1 0 546 = S 1 4 then S 1 2 else S 0 548) = mvP (S 1) kind c (mdP S L) → V 145 [(0, vR m), (1, vI (jI kind)), (3, vI (jI dr))] [] (MH h0 m S1 L1) := by
    intro S1 L1 dr hdr hm hu hl h45 h46 he
    have e1 : S1 1 = S 1 := hm.1.2 1 (by omega) (by omega) (by omega) (by omega)
    have go : ∀ x2 : Int, x2 = (if kind = 2 then 1 else 0) → V 160 [(0, vR m), (3, vI (jI dr))] [.int (jI x2), .int (jI (S1 0 545)), vr m] (MH h0 m S1 L1) := by
      intro x2 hx2
      rw [← hx2] at he
      have hx2b : x2 = 0 ∨ x2 = 1 := by split at hx2 <;> omega
      have step : ∀ v : Int, XM S1 (sr S1 0 (up (up (S1 0) 545 (S1 0 545 - x2)) 548 v)) L1 L1 := fun v => ⟨⟨fun j hj => by simp (disch := omega) only [sr_eq, up_ne], fun k a b c f => by rw [sr_ne a]⟩, by simp (disch := omega) only [sr_eq, up_ne], by rw [sr_ne (by omega)], by rw [sr_ne (by omega)], rfl⟩
      have step0 : XM S1 (sr S1 0 (up (S1 0) 545 (S1 0 545 - x2))) L1 L1 := ⟨⟨fun j hj => by simp (disch := omega) only [sr_eq, up_ne], fun k a b c f => by rw [sr_ne a]⟩, by simp (disch := omega) only [sr_eq, up_ne], by rw [sr_ne (by omega)], by rw [sr_ne (by omega)], rfl⟩
      refine b_X7_moves_160 C ?_
      simp (disch := omega) only [M_kd, M_ref1, M_kd1, M_ln1, M_get1, M_put1, M_ref2, M_kd2, M_ln2, M_get2, M_put2, M_ref3, M_kd3, M_ln3, M_get3, M_put3, M_ref4, M_kd4, M_ln4, M_get4, M_put4, M_ref5, M_kd5, M_ln5, M_get5, M_put5, M_ref6, M_kd6, M_ln6, M_get6, M_put6, M_ref7, M_kd7, M_ln7, M_get7, M_put7, M_ref8, M_kd8, M_ln8, M_get8, M_put8, M_ref9, M_kd9, M_ln9, M_get9, M_put9, M_ref10, M_kd10, M_ln10, M_get10, M_put10, M_ref11, M_kd11, M_ln11, M_get11, M_put11, M_ref12, M_kd12, M_ln12, M_get12, M_put12, M_ref13, M_kd13, M_ln13, M_get13, M_put13, M_ref14, M_kd14, M_ln14, M_get14, M_put14, M_p526, M_g526, M_p527, M_g527, M_p529, M_g529, M_p530, M_g530, M_p531, M_g531, M_p532, M_g532, M_p533, M_g533, M_p534, M_g534, M_p535, M_g535, M_p536, M_g536, M_p537, M_g537, M_p542, M_g542, M_p545, M_g545, M_p546, M_g546, M_p547, M_g547, M_p548, M_g548, M_p550, M_g550, M_hz, M_hs, jL_mul, jL_add, jL_sub, jL_div, jL_rem, jL_of32, jI_of64, jI_add, jI_sub, jI_mul, jI_div, jI_rem, jI_neg, jI_eq, jI_lt, jI_le, jI_eq0, jI_lt0, jI_0lt, jI_le0, jI_0le, forall_eq, true_and, and_true, or_true, true_or, or_false, false_or, and_false, false_and, not_true_eq_false, not_false_eq_true, false_implies, true_implies, implies_true, Int.reduceEq, Int.reduceLT, Int.reduceLE, Int.reduceAdd, Int.reduceSub, Int.reduceMul, Int.reduceNeg, Int.reduceNe, Nat.reduceEqDiff, Nat.reduceAdd, Int.cast_ofNat_Int, ne_eq, ↓reduceIte, sr_eq, sr_sr, sr_ne, up_up, vp_jI, up_ne, hl, e1]
      refine ⟨fun q => ⟨fun q1 => ?_, fun q1 => ⟨fun q2 => ?_, fun q2 => ?_⟩⟩, fun q => ?_⟩
      · rw [if_neg (by omega), if_neg (by omega)] at he
        refine t212 _ _ (hm.trans step0) (by simp (disch := omega) only [sr_eq, up_ne]; exact hu) ?_
        simp (disch := omega) only [sr_ne, sr_eq, up_ne, up_eq, hl]
        exact he
      · rw [if_neg (by omega), if_neg (by omega)] at he
        refine t212 _ _ (hm.trans step0) (by simp (disch := omega) only [sr_eq, up_ne]; exact hu) ?_
        simp (disch := omega) only [sr_ne, sr_eq, up_ne, up_eq, hl]
        exact he
      · rw [if_neg (by omega), if_pos (by omega)] at he
        refine t212 _ _ (hm.trans (step _)) (by simp (disch := omega) only [sr_eq, up_ne]; exact hu) ?_
        simp (disch := omega) only [sr_ne, sr_eq, up_ne, up_eq]
        exact he
      · rw [if_pos (by omega)] at he
        refine t212 _ _ (hm.trans (step _)) (by simp (disch := omega) only [sr_eq, up_ne]; exact hu) ?_
        simp (disch := omega) only [sr_ne, sr_eq, up_ne, up_eq]
        exact he
    refine b_X7_moves_145 C ?_
    simp (disch := omega) only [M_kd, M_ref1, M_kd1, M_ln1, M_get1, M_put1, M_ref2, M_kd2, M_ln2, M_get2, M_put2, M_ref3, M_kd3, M_ln3, M_get3, M_put3, M_ref4, M_kd4, M_ln4, M_get4, M_put4, M_ref5, M_kd5, M_ln5, M_get5, M_put5, M_ref6, M_kd6, M_ln6, M_get6, M_put6, M_ref7, M_kd7, M_ln7, M_get7, M_put7, M_ref8, M_kd8, M_ln8, M_get8, M_put8, M_ref9, M_kd9, M_ln9, M_get9, M_put9, M_ref10, M_kd10, M_ln10, M_get10, M_put10, M_ref11, M_kd11, M_ln11, M_get11, M_put11, M_ref12, M_kd12, M_ln12, M_get12, M_put12, M_ref13, M_kd13, M_ln13, M_get13, M_put13, M_ref14, M_kd14, M_ln14, M_get14, M_put14, M_p526, M_g526, M_p527, M_g527, M_p529, M_g529, M_p530, M_g530, M_p531, M_g531, M_p532, M_g532, M_p533, M_g533, M_p534, M_g534, M_p535, M_g535, M_p536, M_g536, M_p537, M_g537, M_p542, M_g542, M_p545, M_g545, M_p546, M_g546, M_p547, M_g547, M_p548, M_g548, M_p550, M_g550, M_hz, M_hs, jL_mul, jL_add, jL_sub, jL_div, jL_rem, jL_of32, jI_of64, jI_add, jI_sub, jI_mul, jI_div, jI_rem, jI_neg, jI_eq, jI_lt, jI_le, jI_eq0, jI_lt0, jI_0lt, jI_le0, jI_0le, forall_eq, true_and, and_true, or_true, true_or, or_false, false_or, and_false, false_and, not_true_eq_false, not_false_eq_true, false_implies, true_implies, implies_true, Int.reduceEq, Int.reduceLT, Int.reduceLE, Int.reduceAdd, Int.reduceSub, Int.reduceMul, Int.reduceNeg, Int.reduceNe, Nat.reduceEqDiff, Nat.reduceAdd, Int.cast_ofNat_Int, ne_eq, ↓reduceIte, sr_eq, sr_sr, sr_ne, up_up, vp_jI]
    refine ⟨fun q => go 0 (by rw [if_neg q]), fun q => go 1 (by rw [if_pos q])⟩
  -- a card
  have card : kind < 2 → (0 ≤ c ∧ c < S 1 4) ∧ hasC (pH (mdP S L) (pU (mdP S L))) c := fun q => by
    rcases ho with h | h | h | h
    · exact ⟨h.2.1, h.2.2.1⟩
    · exact ⟨h.2.1, h.2.2⟩
    · omega
    · omega
  have hh : pH (mdP S L) (S 0 547) = L 12 (S 0 547) := mk_H ⟨v4.1, by omega⟩
  have eqs : mvP (S 1) kind c (mdP S L) = mvP (S 1) kind c (mdP S L) := rfl
  simp (disch := omega) only [M_kd, M_ref1, M_kd1, M_ln1, M_get1, M_put1, M_ref2, M_kd2, M_ln2, M_get2, M_put2, M_ref3, M_kd3, M_ln3, M_get3, M_put3, M_ref4, M_kd4, M_ln4, M_get4, M_put4, M_ref5, M_kd5, M_ln5, M_get5, M_put5, M_ref6, M_kd6, M_ln6, M_get6, M_put6, M_ref7, M_kd7, M_ln7, M_get7, M_put7, M_ref8, M_kd8, M_ln8, M_get8, M_put8, M_ref9, M_kd9, M_ln9, M_get9, M_put9, M_ref10, M_kd10, M_ln10, M_get10, M_put10, M_ref11, M_kd11, M_ln11, M_get11, M_put11, M_ref12, M_kd12, M_ln12, M_get12, M_put12, M_ref13, M_kd13, M_ln13, M_get13, M_put13, M_ref14, M_kd14, M_ln14, M_get14, M_put14, M_p526, M_g526, M_p527, M_g527, M_p529, M_g529, M_p530, M_g530, M_p531, M_g531, M_p532, M_g532, M_p533, M_g533, M_p534, M_g534, M_p535, M_g535, M_p536, M_g536, M_p537, M_g537, M_p542, M_g542, M_p545, M_g545, M_p546, M_g546, M_p547, M_g547, M_p548, M_g548, M_p550, M_g550, M_hz, M_hs, jL_mul, jL_add, jL_sub, jL_div, jL_rem, jL_of32, jI_of64, jI_add, jI_sub, jI_mul, jI_div, jI_rem, jI_neg, jI_eq, jI_lt, jI_le, jI_eq0, jI_lt0, jI_0lt, jI_le0, jI_0le, forall_eq, true_and, and_true, or_true, true_or, or_false, false_or, and_false, false_and, not_true_eq_false, not_false_eq_true, false_implies, true_implies, implies_true, Int.reduceEq, Int.reduceLT, Int.reduceLE, Int.reduceAdd, Int.reduceSub, Int.reduceMul, Int.reduceNeg, Int.reduceNe, Nat.reduceEqDiff, Nat.reduceAdd, Int.cast_ofNat_Int, ne_eq, ↓reduceIte, sr_eq, sr_sr, sr_ne, up_up, vp_jI]
  refine ⟨fun q => ?_, fun q => ?_⟩
  · refine t145 S L 0 (Or.inl rfl) ⟨XF.rfl, rfl, rfl, rfl, rfl⟩ rfl rfl (by omega) (by omega) ?_
    unfold mvP
    dsimp only
    rw [if_neg (show ¬ kind < 2 by omega), if_neg (show ¬ kind = 0 by omega), if_neg (show ¬ kind < 2 by omega), if_neg (show ¬ (kind < 2 ∧ pN (mdP S L) < S 1 4) by omega), if_neg (show ¬ (kind < 2 ∧ pN (mdP S L) < S 1 4) by omega)]
    refine mkP_ext.mpr ⟨fun i a b => (mk_H ⟨a, b⟩).symm, fun i a b => (mk_P ⟨a, b⟩).symm, ?_, rfl, rfl, ?_⟩
    · by_cases g : kind = 2
      · rw [if_pos g, if_pos g]; rfl
      · rw [if_neg g, if_neg g, Int.sub_zero]; rfl
    · rw [eL]
      by_cases g : S 0 548 = -1
      · rw [if_neg (show ¬ S 0 548 ≠ -1 from fun w => w g), if_neg (show ¬ S 0 548 ≠ -1 from fun w => w g), if_neg (show ¬ ((0 : Int) = 1 ∧ S 0 546 = S 1 4) by omega), if_neg (fun w => absurd w.1.1 (by omega))]
      · rw [if_pos g, if_pos g]
  · obtain ⟨⟨c0, c4⟩, hc⟩ := card (by omega)
    have hck := hkc c c0 c4
    have hkb := hk.2.2.2.2.1 c c0 (by omega)
    have hcb := col_bd hkb
    have hrb := rnk_bd hkb
    have e1k : itsR (S 1) c = S 1 (27 + c) := rfl
    have hpile : pP (mdP S L) (colR (S 1 (27 + c))) = S 13 (colR (S 1 (27 + c))) := mk_P ⟨hcb.1, hcb.2⟩
    have h1b := hk.2.1
    have hpb := v1 (colR (S 1 (27 + c))) hcb.1 hcb.2
    rw [hpile] at hpb
    -- hands and piles behind the card
    have fin : ∀ (S1 : Nat → Row), XM S S1 L (sr L 12 (upL (L 12) (S 0 547) (clrC (L 12 (S 0 547)) c))) → (∀ i, 0 ≤ i → i < 4 → S1 13 i = (if kind = 0 then up (S 13) (colR (S 1 (27 + c))) (S 13 (colR (S 1 (27 + c))) + 1) else S 13) i) → S1 0 545 = (if kind = 1 ∨ rnkR (S 1 (27 + c)) = S 1 1 then min (S 1 6) (S 0 545 + 1) else S 0 545) → S1 0 546 = S 0 546 → S1 0 547 = S 0 547 → S1 0 548 = S 0 548 →
        V 94 [(0, vR m), (1, vI (jI kind))] [] (MH h0 m S1 (sr L 12 (upL (L 12) (S 0 547) (clrC (L 12 (S 0 547)) c)))) := by
      intro S1 hm hpi ht hn hu hl
      have e1 : S1 1 = S 1 := hm.1.2 1 (by omega) (by omega) (by omega) (by omega)
      have htb : 0 ≤ S1 0 545 ∧ S1 0 545 ≤ 9 := by rw [ht]; split <;> omega
      have hP : ∀ i, 0 ≤ i → i < 4 → S1 13 i = (if kind = 0 then up (pP (mdP S L)) (colR (itsR (S 1) c)) (pP (mdP S L) (colR (itsR (S 1) c)) + 1) else pP (mdP S L)) i := fun i a b => by
        rw [hpi i a b, e1k]
        split
        · rw [hpile]
          by_cases g : i = colR (S 1 (27 + c))
          · rw [g, up_eq, up_eq]
          · rw [up_ne g, up_ne g]; exact (mk_P ⟨a, b⟩).symm
        · exact (mk_P ⟨a, b⟩).symm
      refine b_X7_moves_94 C ?_
      simp (disch := omega) only [M_kd, M_ref1, M_kd1, M_ln1, M_get1, M_put1, M_ref2, M_kd2, M_ln2, M_get2, M_put2, M_ref3, M_kd3, M_ln3, M_get3, M_put3, M_ref4, M_kd4, M_ln4, M_get4, M_put4, M_ref5, M_kd5, M_ln5, M_get5, M_put5, M_ref6, M_kd6, M_ln6, M_get6, M_put6, M_ref7, M_kd7, M_ln7, M_get7, M_put7, M_ref8, M_kd8, M_ln8, M_get8, M_put8, M_ref9, M_kd9, M_ln9, M_get9, M_put9, M_ref10, M_kd10, M_ln10, M_get10, M_put10, M_ref11, M_kd11, M_ln11, M_get11, M_put11, M_ref12, M_kd12, M_ln12, M_get12, M_put12, M_ref13, M_kd13, M_ln13, M_get13, M_put13, M_ref14, M_kd14, M_ln14, M_get14, M_put14, M_p526, M_g526, M_p527, M_g527, M_p529, M_g529, M_p530, M_g530, M_p531, M_g531, M_p532, M_g532, M_p533, M_g533, M_p534, M_g534, M_p535, M_g535, M_p536, M_g536, M_p537, M_g537, M_p542, M_g542, M_p545, M_g545, M_p546, M_g546, M_p547, M_g547, M_p548, M_g548, M_p550, M_g550, M_hz, M_hs, jL_mul, jL_add, jL_sub, jL_div, jL_rem, jL_of32, jI_of64, jI_add, jI_sub, jI_mul, jI_div, jI_rem, jI_neg, jI_eq, jI_lt, jI_le, jI_eq0, jI_lt0, jI_0lt, jI_le0, jI_0le, forall_eq, true_and, and_true, or_true, true_or, or_false, false_or, and_false, false_and, not_true_eq_false, not_false_eq_true, false_implies, true_implies, implies_true, Int.reduceEq, Int.reduceLT, Int.reduceLE, Int.reduceAdd, Int.reduceSub, Int.reduceMul, Int.reduceNeg, Int.reduceNe, Nat.reduceEqDiff, Nat.reduceAdd, Int.cast_ofNat_Int, ne_eq, ↓reduceIte, sr_eq, sr_sr, sr_ne, up_up, vp_jI, e1, hn]
      refine ⟨fun q4 => ?_, fun q4 => ?_⟩
      · refine b_X7_moves_112 C ?_
        simp (disch := omega) only [M_kd, M_ref1, M_kd1, M_ln1, M_get1, M_put1, M_ref2, M_kd2, M_ln2, M_get2, M_put2, M_ref3, M_kd3, M_ln3, M_get3, M_put3, M_ref4, M_kd4, M_ln4, M_get4, M_put4, M_ref5, M_kd5, M_ln5, M_get5, M_put5, M_ref6, M_kd6, M_ln6, M_get6, M_put6, M_ref7, M_kd7, M_ln7, M_get7, M_put7, M_ref8, M_kd8, M_ln8, M_get8, M_put8, M_ref9, M_kd9, M_ln9, M_get9, M_put9, M_ref10, M_kd10, M_ln10, M_get10, M_put10, M_ref11, M_kd11, M_ln11, M_get11, M_put11, M_ref12, M_kd12, M_ln12, M_get12, M_put12, M_ref13, M_kd13, M_ln13, M_get13, M_put13, M_ref14, M_kd14, M_ln14, M_get14, M_put14, M_p526, M_g526, M_p527, M_g527, M_p529, M_g529, M_p530, M_g530, M_p531, M_g531, M_p532, M_g532, M_p533, M_g533, M_p534, M_g534, M_p535, M_g535, M_p536, M_g536, M_p537, M_g537, M_p542, M_g542, M_p545, M_g545, M_p546, M_g546, M_p547, M_g547, M_p548, M_g548, M_p550, M_g550, M_hz, M_hs, jL_mul, jL_add, jL_sub, jL_div, jL_rem, jL_of32, jI_of64, jI_add, jI_sub, jI_mul, jI_div, jI_rem, jI_neg, jI_eq, jI_lt, jI_le, jI_eq0, jI_lt0, jI_0lt, jI_le0, jI_0le, forall_eq, true_and, and_true, or_true, true_or, or_false, false_or, and_false, false_and, not_true_eq_false, not_false_eq_true, false_implies, true_implies, implies_true, Int.reduceEq, Int.reduceLT, Int.reduceLE, Int.reduceAdd, Int.reduceSub, Int.reduceMul, Int.reduceNeg, Int.reduceNe, Nat.reduceEqDiff, Nat.reduceAdd, Int.cast_ofNat_Int, ne_eq, ↓reduceIte, sr_eq, sr_sr, sr_ne, up_up, vp_jI]
        refine t145 _ _ 0 (Or.inl rfl) hm hu hl (by omega) (by omega) ?_
        unfold mvP
        dsimp only
        rw [eN, eU, eL, eT, hh, if_pos (show kind < 2 by omega), if_pos (show kind < 2 by omega), if_neg (show ¬ (kind < 2 ∧ S 0 546 < S 1 4) by omega), if_neg (show ¬ (kind < 2 ∧ S 0 546 < S 1 4) by omega), if_neg (show ¬ kind = 2 by omega), Int.sub_zero]
        refine mkP_ext.mpr ⟨fun i a b => ?_, hP, by rw [ht, e1k], hn, rfl, ?_⟩
        · rw [sr_eq]
          by_cases g : i = S 0 547
          · rw [g, upL_eq, upL_eq]
          · rw [upL_ne g, upL_ne g]; exact (mk_H ⟨a, b⟩).symm
        · by_cases g : S 0 548 = -1
          · rw [if_neg (show ¬ S 0 548 ≠ -1 from fun w => w g), if_neg (show ¬ S 0 548 ≠ -1 from fun w => w g), if_neg (fun w => absurd w.1 (by omega)), if_neg (fun w => absurd w.1.2 (by omega))]
          · rw [if_pos g, if_pos g]
      · refine b_X7_moves_112 C ?_
        have eS : (L 12 (S 0 547) : Int64) = L 12 (S 0 547) := rfl
        simp (disch := omega) only [M_kd, M_ref1, M_kd1, M_ln1, M_get1, M_put1, M_ref2, M_kd2, M_ln2, M_get2, M_put2, M_ref3, M_kd3, M_ln3, M_get3, M_put3, M_ref4, M_kd4, M_ln4, M_get4, M_put4, M_ref5, M_kd5, M_ln5, M_get5, M_put5, M_ref6, M_kd6, M_ln6, M_get6, M_put6, M_ref7, M_kd7, M_ln7, M_get7, M_put7, M_ref8, M_kd8, M_ln8, M_get8, M_put8, M_ref9, M_kd9, M_ln9, M_get9, M_put9, M_ref10, M_kd10, M_ln10, M_get10, M_put10, M_ref11, M_kd11, M_ln11, M_get11, M_put11, M_ref12, M_kd12, M_ln12, M_get12, M_put12, M_ref13, M_kd13, M_ln13, M_get13, M_put13, M_ref14, M_kd14, M_ln14, M_get14, M_put14, M_p526, M_g526, M_p527, M_g527, M_p529, M_g529, M_p530, M_g530, M_p531, M_g531, M_p532, M_g532, M_p533, M_g533, M_p534, M_g534, M_p535, M_g535, M_p536, M_g536, M_p537, M_g537, M_p542, M_g542, M_p545, M_g545, M_p546, M_g546, M_p547, M_g547, M_p548, M_g548, M_p550, M_g550, M_hz, M_hs, jL_mul, jL_add, jL_sub, jL_div, jL_rem, jL_of32, jI_of64, jI_add, jI_sub, jI_mul, jI_div, jI_rem, jI_neg, jI_eq, jI_lt, jI_le, jI_eq0, jI_lt0, jI_0lt, jI_le0, jI_0le, forall_eq, true_and, and_true, or_true, true_or, or_false, false_or, and_false, false_and, not_true_eq_false, not_false_eq_true, false_implies, true_implies, implies_true, Int.reduceEq, Int.reduceLT, Int.reduceLE, Int.reduceAdd, Int.reduceSub, Int.reduceMul, Int.reduceNeg, Int.reduceNe, Nat.reduceEqDiff, Nat.reduceAdd, Int.cast_ofNat_Int, ne_eq, ↓reduceIte, sr_eq, sr_sr, sr_ne, up_up, vp_jI, hu, hn, upL_eq, e1]
        have hset : ∀ x : Int64, x ||| jlshl (jL 1) (jI (S 0 546)) = setC x (S 0 546) := fun _ => rfl
        rw [hset]
        refine t145 _ _ 1 (Or.inr rfl) (hm.trans ⟨⟨fun j hj => by simp (disch := omega) only [sr_eq, up_ne], fun k a b c f => by rw [sr_ne a]⟩, by simp (disch := omega) only [sr_eq, up_ne], by rw [sr_ne (by omega)], by rw [sr_ne (by omega)], by rw [sr_ne (by omega), sr_ne (by omega)]⟩) (by simp (disch := omega) only [sr_eq, up_ne]; exact hu) (by simp (disch := omega) only [sr_eq, up_ne]; exact hl) (by simp (disch := omega) only [sr_eq, up_ne]; omega) (by simp (disch := omega) only [sr_eq, up_eq]; omega) ?_
        unfold mvP
        dsimp only
        rw [eN, eU, eL, eT, hh, if_pos (show kind < 2 by omega), if_pos (show kind < 2 by omega), if_pos (show kind < 2 ∧ S 0 546 < S 1 4 by omega), if_pos (show kind < 2 ∧ S 0 546 < S 1 4 by omega), if_neg (show ¬ kind = 2 by omega), Int.sub_zero]
        simp (disch := omega) only [sr_eq, sr_ne, up_ne, up_eq]
        refine mkP_ext.mpr ⟨fun i a b => ?_, hP, by rw [ht, e1k], rfl, rfl, ?_⟩
        · by_cases g : i = S 0 547
          · rw [g, upL_eq, upL_eq, upL_eq]
          · rw [upL_ne g, upL_ne g, upL_ne g, upL_ne g]; exact (mk_H ⟨a, b⟩).symm
        · by_cases g : S 0 548 = -1
          · rw [if_neg (show ¬ S 0 548 ≠ -1 from fun w => w g), if_neg (show ¬ S 0 548 ≠ -1 from fun w => w g)]
            by_cases g2 : S 0 546 + 1 = S 1 4
            · rw [if_pos ⟨trivial, g2⟩, if_pos (show (kind < 2 ∧ S 0 546 < S 1 4) ∧ S 0 546 + 1 = S 1 4 by omega)]
            · rw [if_neg (fun w => g2 w.2), if_neg (fun w => g2 w.2)]
          · rw [if_pos g, if_pos g]
    have hclr : ∀ x : Int64, x &&& (jlshl (jL 1) (jI c) ^^^ jL (-1)) = clrC x c := fun _ => rfl
    rw [hclr]
    simp (disch := omega) only [M_kd, M_ref1, M_kd1, M_ln1, M_get1, M_put1, M_ref2, M_kd2, M_ln2, M_get2, M_put2, M_ref3, M_kd3, M_ln3, M_get3, M_put3, M_ref4, M_kd4, M_ln4, M_get4, M_put4, M_ref5, M_kd5, M_ln5, M_get5, M_put5, M_ref6, M_kd6, M_ln6, M_get6, M_put6, M_ref7, M_kd7, M_ln7, M_get7, M_put7, M_ref8, M_kd8, M_ln8, M_get8, M_put8, M_ref9, M_kd9, M_ln9, M_get9, M_put9, M_ref10, M_kd10, M_ln10, M_get10, M_put10, M_ref11, M_kd11, M_ln11, M_get11, M_put11, M_ref12, M_kd12, M_ln12, M_get12, M_put12, M_ref13, M_kd13, M_ln13, M_get13, M_put13, M_ref14, M_kd14, M_ln14, M_get14, M_put14, M_p526, M_g526, M_p527, M_g527, M_p529, M_g529, M_p530, M_g530, M_p531, M_g531, M_p532, M_g532, M_p533, M_g533, M_p534, M_g534, M_p535, M_g535, M_p536, M_g536, M_p537, M_g537, M_p542, M_g542, M_p545, M_g545, M_p546, M_g546, M_p547, M_g547, M_p548, M_g548, M_p550, M_g550, M_hz, M_hs, jL_mul, jL_add, jL_sub, jL_div, jL_rem, jL_of32, jI_of64, jI_add, jI_sub, jI_mul, jI_div, jI_rem, jI_neg, jI_eq, jI_lt, jI_le, jI_eq0, jI_lt0, jI_0lt, jI_le0, jI_0le, forall_eq, true_and, and_true, or_true, true_or, or_false, false_or, and_false, false_and, not_true_eq_false, not_false_eq_true, false_implies, true_implies, implies_true, Int.reduceEq, Int.reduceLT, Int.reduceLE, Int.reduceAdd, Int.reduceSub, Int.reduceMul, Int.reduceNeg, Int.reduceNe, Nat.reduceEqDiff, Nat.reduceAdd, Int.cast_ofNat_Int, ne_eq, ↓reduceIte, sr_eq, sr_sr, sr_ne, up_up, vp_jI]
    have mL : ∀ S1 : Nat → Row, XF S S1 → S1 0 542 = S 0 542 → S1 10 = S 10 → S1 11 = S 11 → XM S S1 L (sr L 12 (upL (L 12) (S 0 547) (clrC (L 12 (S 0 547)) c))) := fun S1 a b c f => ⟨a, b, c, f, by rw [sr_ne (by omega)]⟩
    refine ⟨fun q0 => ?_, fun q0 => ?_⟩
    · have k1 : kind = 1 := by omega
      refine b_X7_moves_55 C ?_
      simp (disch := omega) only [M_kd, M_ref1, M_kd1, M_ln1, M_get1, M_put1, M_ref2, M_kd2, M_ln2, M_get2, M_put2, M_ref3, M_kd3, M_ln3, M_get3, M_put3, M_ref4, M_kd4, M_ln4, M_get4, M_put4, M_ref5, M_kd5, M_ln5, M_get5, M_put5, M_ref6, M_kd6, M_ln6, M_get6, M_put6, M_ref7, M_kd7, M_ln7, M_get7, M_put7, M_ref8, M_kd8, M_ln8, M_get8, M_put8, M_ref9, M_kd9, M_ln9, M_get9, M_put9, M_ref10, M_kd10, M_ln10, M_get10, M_put10, M_ref11, M_kd11, M_ln11, M_get11, M_put11, M_ref12, M_kd12, M_ln12, M_get12, M_put12, M_ref13, M_kd13, M_ln13, M_get13, M_put13, M_ref14, M_kd14, M_ln14, M_get14, M_put14, M_p526, M_g526, M_p527, M_g527, M_p529, M_g529, M_p530, M_g530, M_p531, M_g531, M_p532, M_g532, M_p533, M_g533, M_p534, M_g534, M_p535, M_g535, M_p536, M_g536, M_p537, M_g537, M_p542, M_g542, M_p545, M_g545, M_p546, M_g546, M_p547, M_g547, M_p548, M_g548, M_p550, M_g550, M_hz, M_hs, jL_mul, jL_add, jL_sub, jL_div, jL_rem, jL_of32, jI_of64, jI_add, jI_sub, jI_mul, jI_div, jI_rem, jI_neg, jI_eq, jI_lt, jI_le, jI_eq0, jI_lt0, jI_0lt, jI_le0, jI_0le, forall_eq, true_and, and_true, or_true, true_or, or_false, false_or, and_false, false_and, not_true_eq_false, not_false_eq_true, false_implies, true_implies, implies_true, Int.reduceEq, Int.reduceLT, Int.reduceLE, Int.reduceAdd, Int.reduceSub, Int.reduceMul, Int.reduceNeg, Int.reduceNe, Nat.reduceEqDiff, Nat.reduceAdd, Int.cast_ofNat_Int, ne_eq, ↓reduceIte, sr_eq, sr_sr, sr_ne, up_up, vp_jI]
      refine ⟨fun _ => ?_, fun g => absurd k1 g⟩
      refine b_X7_moves_74 C ?_
      simp (disch := omega) only [M_kd, M_ref1, M_kd1, M_ln1, M_get1, M_put1, M_ref2, M_kd2, M_ln2, M_get2, M_put2, M_ref3, M_kd3, M_ln3, M_get3, M_put3, M_ref4, M_kd4, M_ln4, M_get4, M_put4, M_ref5, M_kd5, M_ln5, M_get5, M_put5, M_ref6, M_kd6, M_ln6, M_get6, M_put6, M_ref7, M_kd7, M_ln7, M_get7, M_put7, M_ref8, M_kd8, M_ln8, M_get8, M_put8, M_ref9, M_kd9, M_ln9, M_get9, M_put9, M_ref10, M_kd10, M_ln10, M_get10, M_put10, M_ref11, M_kd11, M_ln11, M_get11, M_put11, M_ref12, M_kd12, M_ln12, M_get12, M_put12, M_ref13, M_kd13, M_ln13, M_get13, M_put13, M_ref14, M_kd14, M_ln14, M_get14, M_put14, M_p526, M_g526, M_p527, M_g527, M_p529, M_g529, M_p530, M_g530, M_p531, M_g531, M_p532, M_g532, M_p533, M_g533, M_p534, M_g534, M_p535, M_g535, M_p536, M_g536, M_p537, M_g537, M_p542, M_g542, M_p545, M_g545, M_p546, M_g546, M_p547, M_g547, M_p548, M_g548, M_p550, M_g550, M_hz, M_hs, jL_mul, jL_add, jL_sub, jL_div, jL_rem, jL_of32, jI_of64, jI_add, jI_sub, jI_mul, jI_div, jI_rem, jI_neg, jI_eq, jI_lt, jI_le, jI_eq0, jI_lt0, jI_0lt, jI_le0, jI_0le, forall_eq, true_and, and_true, or_true, true_or, or_false, false_or, and_false, false_and, not_true_eq_false, not_false_eq_true, false_implies, true_implies, implies_true, Int.reduceEq, Int.reduceLT, Int.reduceLE, Int.reduceAdd, Int.reduceSub, Int.reduceMul, Int.reduceNeg, Int.reduceNe, Nat.reduceEqDiff, Nat.reduceAdd, Int.cast_ofNat_Int, ne_eq, ↓reduceIte, sr_eq, sr_sr, sr_ne, up_up, vp_jI, j_min]
      refine fin _ (mL _ ⟨fun j hj => by simp (disch := omega) only [sr_eq, up_ne], fun k a b c f => by rw [sr_ne a]⟩ (by simp (disch := omega) only [sr_eq, up_ne]) (by rw [sr_ne (by omega)]) (by rw [sr_ne (by omega)])) (fun i a b => by rw [if_neg q0, sr_ne (by omega)]) (by rw [sr_eq, up_eq, if_pos (Or.inl k1)]) (by simp (disch := omega) only [sr_eq, up_ne]) (by simp (disch := omega) only [sr_eq, up_ne]) (by simp (disch := omega) only [sr_eq, up_ne])
    · refine m_colorOf (by omega) hkb.1 (by omega) ⟨_, rfl, ?_⟩
      simp (disch := omega) only [M_kd, M_ref1, M_kd1, M_ln1, M_get1, M_put1, M_ref2, M_kd2, M_ln2, M_get2, M_put2, M_ref3, M_kd3, M_ln3, M_get3, M_put3, M_ref4, M_kd4, M_ln4, M_get4, M_put4, M_ref5, M_kd5, M_ln5, M_get5, M_put5, M_ref6, M_kd6, M_ln6, M_get6, M_put6, M_ref7, M_kd7, M_ln7, M_get7, M_put7, M_ref8, M_kd8, M_ln8, M_get8, M_put8, M_ref9, M_kd9, M_ln9, M_get9, M_put9, M_ref10, M_kd10, M_ln10, M_get10, M_put10, M_ref11, M_kd11, M_ln11, M_get11, M_put11, M_ref12, M_kd12, M_ln12, M_get12, M_put12, M_ref13, M_kd13, M_ln13, M_get13, M_put13, M_ref14, M_kd14, M_ln14, M_get14, M_put14, M_p526, M_g526, M_p527, M_g527, M_p529, M_g529, M_p530, M_g530, M_p531, M_g531, M_p532, M_g532, M_p533, M_g533, M_p534, M_g534, M_p535, M_g535, M_p536, M_g536, M_p537, M_g537, M_p542, M_g542, M_p545, M_g545, M_p546, M_g546, M_p547, M_g547, M_p548, M_g548, M_p550, M_g550, M_hz, M_hs, jL_mul, jL_add, jL_sub, jL_div, jL_rem, jL_of32, jI_of64, jI_add, jI_sub, jI_mul, jI_div, jI_rem, jI_neg, jI_eq, jI_lt, jI_le, jI_eq0, jI_lt0, jI_0lt, jI_le0, jI_0le, forall_eq, true_and, and_true, or_true, true_or, or_false, false_or, and_false, false_and, not_true_eq_false, not_false_eq_true, false_implies, true_implies, implies_true, Int.reduceEq, Int.reduceLT, Int.reduceLE, Int.reduceAdd, Int.reduceSub, Int.reduceMul, Int.reduceNeg, Int.reduceNe, Nat.reduceEqDiff, Nat.reduceAdd, Int.cast_ofNat_Int, ne_eq, ↓reduceIte, sr_eq, sr_sr, sr_ne, up_up, vp_jI]
      refine b_X7_moves_55 C ?_
      simp (disch := omega) only [M_kd, M_ref1, M_kd1, M_ln1, M_get1, M_put1, M_ref2, M_kd2, M_ln2, M_get2, M_put2, M_ref3, M_kd3, M_ln3, M_get3, M_put3, M_ref4, M_kd4, M_ln4, M_get4, M_put4, M_ref5, M_kd5, M_ln5, M_get5, M_put5, M_ref6, M_kd6, M_ln6, M_get6, M_put6, M_ref7, M_kd7, M_ln7, M_get7, M_put7, M_ref8, M_kd8, M_ln8, M_get8, M_put8, M_ref9, M_kd9, M_ln9, M_get9, M_put9, M_ref10, M_kd10, M_ln10, M_get10, M_put10, M_ref11, M_kd11, M_ln11, M_get11, M_put11, M_ref12, M_kd12, M_ln12, M_get12, M_put12, M_ref13, M_kd13, M_ln13, M_get13, M_put13, M_ref14, M_kd14, M_ln14, M_get14, M_put14, M_p526, M_g526, M_p527, M_g527, M_p529, M_g529, M_p530, M_g530, M_p531, M_g531, M_p532, M_g532, M_p533, M_g533, M_p534, M_g534, M_p535, M_g535, M_p536, M_g536, M_p537, M_g537, M_p542, M_g542, M_p545, M_g545, M_p546, M_g546, M_p547, M_g547, M_p548, M_g548, M_p550, M_g550, M_hz, M_hs, jL_mul, jL_add, jL_sub, jL_div, jL_rem, jL_of32, jI_of64, jI_add, jI_sub, jI_mul, jI_div, jI_rem, jI_neg, jI_eq, jI_lt, jI_le, jI_eq0, jI_lt0, jI_0lt, jI_le0, jI_0le, forall_eq, true_and, and_true, or_true, true_or, or_false, false_or, and_false, false_and, not_true_eq_false, not_false_eq_true, false_implies, true_implies, implies_true, Int.reduceEq, Int.reduceLT, Int.reduceLE, Int.reduceAdd, Int.reduceSub, Int.reduceMul, Int.reduceNeg, Int.reduceNe, Nat.reduceEqDiff, Nat.reduceAdd, Int.cast_ofNat_Int, ne_eq, ↓reduceIte, sr_eq, sr_sr, sr_ne, up_up, vp_jI]
      refine ⟨fun g => absurd g (by omega), fun _ => m_rankOf (by omega) hkb.1 (by omega) ⟨_, rfl, ?_⟩⟩
      simp (disch := omega) only [M_kd, M_ref1, M_kd1, M_ln1, M_get1, M_put1, M_ref2, M_kd2, M_ln2, M_get2, M_put2, M_ref3, M_kd3, M_ln3, M_get3, M_put3, M_ref4, M_kd4, M_ln4, M_get4, M_put4, M_ref5, M_kd5, M_ln5, M_get5, M_put5, M_ref6, M_kd6, M_ln6, M_get6, M_put6, M_ref7, M_kd7, M_ln7, M_get7, M_put7, M_ref8, M_kd8, M_ln8, M_get8, M_put8, M_ref9, M_kd9, M_ln9, M_get9, M_put9, M_ref10, M_kd10, M_ln10, M_get10, M_put10, M_ref11, M_kd11, M_ln11, M_get11, M_put11, M_ref12, M_kd12, M_ln12, M_get12, M_put12, M_ref13, M_kd13, M_ln13, M_get13, M_put13, M_ref14, M_kd14, M_ln14, M_get14, M_put14, M_p526, M_g526, M_p527, M_g527, M_p529, M_g529, M_p530, M_g530, M_p531, M_g531, M_p532, M_g532, M_p533, M_g533, M_p534, M_g534, M_p535, M_g535, M_p536, M_g536, M_p537, M_g537, M_p542, M_g542, M_p545, M_g545, M_p546, M_g546, M_p547, M_g547, M_p548, M_g548, M_p550, M_g550, M_hz, M_hs, jL_mul, jL_add, jL_sub, jL_div, jL_rem, jL_of32, jI_of64, jI_add, jI_sub, jI_mul, jI_div, jI_rem, jI_neg, jI_eq, jI_lt, jI_le, jI_eq0, jI_lt0, jI_0lt, jI_le0, jI_0le, forall_eq, true_and, and_true, or_true, true_or, or_false, false_or, and_false, false_and, not_true_eq_false, not_false_eq_true, false_implies, true_implies, implies_true, Int.reduceEq, Int.reduceLT, Int.reduceLE, Int.reduceAdd, Int.reduceSub, Int.reduceMul, Int.reduceNeg, Int.reduceNe, Nat.reduceEqDiff, Nat.reduceAdd, Int.cast_ofNat_Int, ne_eq, ↓reduceIte, sr_eq, sr_sr, sr_ne, up_up, vp_jI]
      refine ⟨fun g => ?_, fun g => ?_⟩
      · refine fin _ (mL _ ⟨fun j hj => by rw [sr_ne (by omega)], fun k a b c f => by rw [sr_ne f]⟩ (by rw [sr_ne (by omega)]) (by rw [sr_ne (by omega)]) (by rw [sr_ne (by omega)])) (fun i a b => by rw [if_pos q0, sr_eq]) (by rw [sr_ne (by omega), if_neg (by omega)]) (by rw [sr_ne (by omega)]) (by rw [sr_ne (by omega)]) (by rw [sr_ne (by omega)])
      · refine b_X7_moves_74 C ?_
        simp (disch := omega) only [M_kd, M_ref1, M_kd1, M_ln1, M_get1, M_put1, M_ref2, M_kd2, M_ln2, M_get2, M_put2, M_ref3, M_kd3, M_ln3, M_get3, M_put3, M_ref4, M_kd4, M_ln4, M_get4, M_put4, M_ref5, M_kd5, M_ln5, M_get5, M_put5, M_ref6, M_kd6, M_ln6, M_get6, M_put6, M_ref7, M_kd7, M_ln7, M_get7, M_put7, M_ref8, M_kd8, M_ln8, M_get8, M_put8, M_ref9, M_kd9, M_ln9, M_get9, M_put9, M_ref10, M_kd10, M_ln10, M_get10, M_put10, M_ref11, M_kd11, M_ln11, M_get11, M_put11, M_ref12, M_kd12, M_ln12, M_get12, M_put12, M_ref13, M_kd13, M_ln13, M_get13, M_put13, M_ref14, M_kd14, M_ln14, M_get14, M_put14, M_p526, M_g526, M_p527, M_g527, M_p529, M_g529, M_p530, M_g530, M_p531, M_g531, M_p532, M_g532, M_p533, M_g533, M_p534, M_g534, M_p535, M_g535, M_p536, M_g536, M_p537, M_g537, M_p542, M_g542, M_p545, M_g545, M_p546, M_g546, M_p547, M_g547, M_p548, M_g548, M_p550, M_g550, M_hz, M_hs, jL_mul, jL_add, jL_sub, jL_div, jL_rem, jL_of32, jI_of64, jI_add, jI_sub, jI_mul, jI_div, jI_rem, jI_neg, jI_eq, jI_lt, jI_le, jI_eq0, jI_lt0, jI_0lt, jI_le0, jI_0le, forall_eq, true_and, and_true, or_true, true_or, or_false, false_or, and_false, false_and, not_true_eq_false, not_false_eq_true, false_implies, true_implies, implies_true, Int.reduceEq, Int.reduceLT, Int.reduceLE, Int.reduceAdd, Int.reduceSub, Int.reduceMul, Int.reduceNeg, Int.reduceNe, Nat.reduceEqDiff, Nat.reduceAdd, Int.cast_ofNat_Int, ne_eq, ↓reduceIte, sr_eq, sr_sr, sr_ne, up_up, vp_jI, j_min, sr_lt]
        refine fin _ (mL _ ⟨fun j hj => by simp (disch := omega) only [sr_ne, sr_eq, up_ne], fun k a b c f => by rw [sr_ne f, sr_ne a]⟩ (by simp (disch := omega) only [sr_ne, sr_eq, up_ne]) (by simp (disch := omega) only [sr_ne]) (by simp (disch := omega) only [sr_ne])) (fun i a b => by rw [if_pos q0, sr_eq]) (by simp (disch := omega) only [sr_ne, sr_eq, up_eq]; rw [if_pos (Or.inr g)]) (by simp (disch := omega) only [sr_ne, sr_eq, up_ne]) (by simp (disch := omega) only [sr_ne, sr_eq, up_ne]) (by simp (disch := omega) only [sr_ne, sr_eq, up_ne])
end TWP
section TWQ
variable {G : Wd} {l : Launch} {d : Nat} {post : Option Value → VH → Prop} {xp : Nat → VH → Prop} {h0 h : VH} {m : Nat} {S S1 : Nat → Row} {L L1 : Nat → Int → Int64} {Q Q1 : Int → Pos} {n n1 k : Int}
def inQ (Q : Int → Pos) (n : Int) (q : Pos) : Prop := ∃ j, 0 ≤ j ∧ j < n ∧ Q j = q
/-- a search that goes on at position k -/
def GX (r : Row) (S : Nat → Row) (Q : Int → Pos) (n k : Int) (S1 : Nat → Row) (L1 : Nat → Int → Int64) (Q1 : Int → Pos) (n1 : Int) : Prop :=
  XS r S1 L1 Q1 n1 ∧ XF S S1 ∧ n ≤ n1 ∧ (∀ i, 0 ≤ i → i < n → Q1 i = Q i) ∧ (∀ i, n ≤ i → i < n1 → stepP r (Q k) (Q1 i)) ∧ mdP S1 L1 = Q k
theorem fin_left {r : Row} {p : Pos} (h : ¬ finalP r p) : pL p ≠ 0 := fun q => h (Or.inr q)
theorem m_try (hd : 13 ≤ d) (hr : RX (S 1)) (hQ : VP (S 1) (Q k)) (hk : 0 ≤ k ∧ k < n) (hf : ¬ finalP (S 1) (Q k)) (hg : GX (S 1) S Q n k S1 L1 Q1 n1) (hn : n1 ≤ 4018) {kind c : Int} (ho : okP (S 1) kind c (Q k)) (hs : stepP (S 1) (Q k) (mvP (S 1) kind c (Q k))) {P : Option Value → VH → Prop}
    (hp : ∀ S2 L2 Q2 n2, XS (S 1) S2 L2 Q2 n2 → XF S S2 → n ≤ n2 → (∀ i, 0 ≤ i → i < n → Q2 i = Q i) → (∀ i, n ≤ i → i < n2 → stepP (S 1) (Q k) (Q2 i)) → n2 ≤ n1 + 1 → (∀ q, inQ Q1 n1 q → inQ Q2 n2 q) → inQ Q2 n2 (mvP (S 1) kind c (Q k)) → P none (MH h0 m S2 L2)) :
    D G l d mX7_moves [vR m, vI (jI kind), vI (jI c)] (MH h0 m S1 L1) (fun v h1 => v = none ∧ ((kd h1 m = 14) ∧ D G l d mX7_adds [vR m] h1 P xp)) xp := by
  obtain ⟨gX, gF, gn, g1, g2, g3⟩ := hg
  have e1 : S1 1 = S 1 := gF.2 1 (by omega) (by omega) (by omega) (by omega)
  refine m_moves (S := S1) (L := L1) (by omega) (by rw [e1]; exact hr) (by rw [e1, g3]; exact hQ) (kind := kind) (c := c) (by rw [e1, g3]; exact ho) (by rw [g3]; exact fin_left hf) (fun S2 L2 hm he => ⟨rfl, M_kd, ?_⟩)
  rw [e1, g3] at he
  have e2 : S2 1 = S 1 := (hm.1.2 1 (by omega) (by omega) (by omega) (by omega)).trans e1
  have hv2 : VP (S 1) (mdP S2 L2) := by rw [he]; exact mv_ok hr hQ ho (fin_left hf)
  refine m_adds (S := S2) (L := L2) (by omega) (by rw [e2]; exact hr) (by rw [e2]; exact gX.mov hm) (by omega) (by rw [e2]; exact hv2) (fun S3 L3 Q3 n3 h1 h2 h3 h4 h5 h6 h7 => ?_)
  rw [e2] at h1
  rw [he] at h6 h7
  refine hp S3 L3 Q3 n3 h1 (gF.trans (hm.1.trans h2)) (by omega) (fun i a b => (h5 i a (by omega)).trans (g1 i a b)) (fun i a b => ?_) (by omega) (fun q ⟨j, a, b, e⟩ => ⟨j, a, by omega, by rw [h5 j a b]; exact e⟩) h7
  by_cases g : i < n1
  · rw [h5 i (by omega) g]; exact g2 i a g
  · rw [h6 i (by omega) b]; exact hs
theorem m_unp (hd : 9 ≤ d) (hr : RX (S 1)) (hk : 0 ≤ k ∧ k < n) (hX : XS (S 1) S1 L1 Q1 n1) (hF : XF S S1) (hn : n ≤ n1 ∧ n1 ≤ 4020) (hq : ∀ i, 0 ≤ i → i < n → Q1 i = Q i) (hs : ∀ i, n ≤ i → i < n1 → stepP (S 1) (Q k) (Q1 i)) (hp : ∀ S2 L2, GX (S 1) S Q n k S2 L2 Q1 n1 → post none (MH h0 m S2 L2)) : D G l d mX7_unpacks [vR m, vI (jI k)] (MH h0 m S1 L1) post xp := by
  have e1 : S1 1 = S 1 := hF.2 1 (by omega) (by omega) (by omega) (by omega)
  refine m_unpacks (S := S1) (L := L1) (Q := Q1) (n := n1) hd (by rw [e1]; exact hr) (by rw [e1]; exact hX) hn.2 (by omega) (fun S2 L2 hm he => hp S2 L2 ⟨hX.mov hm, hF.trans hm.1, hn.1, hq, hs, ?_⟩)
  rw [he, hq k hk.1 hk.2]
theorem m_goesOn (hd : 15 ≤ d) (hr : RX (S 1)) (hX : XS (S 1) S L Q n) (hn : n ≤ 4000) (hk : 0 ≤ k ∧ k < n)
    (hp : ∀ S' L' Q' n', XS (S 1) S' L' Q' n' → XF S S' → n ≤ n' → n' ≤ 4019 → (∀ i, 0 ≤ i → i < n → Q' i = Q i) → (∀ i, n ≤ i → i < n' → stepP (S 1) (Q k) (Q' i)) → (∀ q, stepP (S 1) (Q k) q → inQ Q' n' q) → post none (MH h0 m S' L')) : D G l d mX7_goesOn [vR m, vI (jI k)] (MH h0 m S L) post xp := by
  have hQ := (hX.2.2.1 k hk.1 hk.2).1
  obtain ⟨hkk, hr2, hr6, hkc⟩ := id hr
  obtain ⟨v1, v2, v3, v4, v5, v6, v7⟩ := id hQ
  have h4b := hkk.2.2.1
  refine D_in (by omega) rfl rfl fun V XV C => b_X7_goesOn_0 C ⟨M_kd, ?_⟩
  refine m_unp (S := S) (Q := Q) (n := n) (by omega) hr hk hX XF.rfl (by omega) (fun _ _ _ => rfl) (fun i a b => by omega) (fun S1 L1 hg => ⟨rfl, M_kd, ?_⟩)
  have e1 : S1 1 = S 1 := hg.2.1.2 1 (by omega) (by omega) (by omega) (by omega)
  have hmd := hg.2.2.2.2.2
  refine m_isFinal (S := S1) (L := L1) (by omega) (by rw [e1]; exact hr) (by rw [e1, hmd]; exact hQ) (fun hf => ⟨_, rfl, ?_⟩) (fun hf => ⟨_, rfl, ?_⟩)
  · rw [e1, hmd] at hf
    simp (disch := omega) only [M_kd, M_ref1, M_kd1, M_ln1, M_get1, M_put1, M_ref2, M_kd2, M_ln2, M_get2, M_put2, M_ref3, M_kd3, M_ln3, M_get3, M_put3, M_ref4, M_kd4, M_ln4, M_get4, M_put4, M_ref5, M_kd5, M_ln5, M_get5, M_put5, M_ref6, M_kd6, M_ln6, M_get6, M_put6, M_ref7, M_kd7, M_ln7, M_get7, M_put7, M_ref8, M_kd8, M_ln8, M_get8, M_put8, M_ref9, M_kd9, M_ln9, M_get9, M_put9, M_ref10, M_kd10, M_ln10, M_get10, M_put10, M_ref11, M_kd11, M_ln11, M_get11, M_put11, M_ref12, M_kd12, M_ln12, M_get12, M_put12, M_ref13, M_kd13, M_ln13, M_get13, M_put13, M_ref14, M_kd14, M_ln14, M_get14, M_put14, M_p526, M_g526, M_p527, M_g527, M_p529, M_g529, M_p530, M_g530, M_p531, M_g531, M_p532, M_g532, M_p533, M_g533, M_p534, M_g534, M_p535, M_g535, M_p536, M_g536, M_p537, M_g537, M_p542, M_g542, M_p545, M_g545, M_p546, M_g546, M_p547, M_g547, M_p548, M_g548, M_p550, M_g550, M_hz, M_hs, jL_mul, jL_add, jL_sub, jL_div, jL_rem, jL_of32, jI_of64, jI_add, jI_sub, jI_mul, jI_div, jI_rem, jI_neg, jI_eq, jI_lt, jI_le, jI_eq0, jI_lt0, jI_0lt, jI_le0, jI_0le, forall_eq, true_and, and_true, or_true, true_or, or_false, false_or, and_false, false_and, not_true_eq_false, not_false_eq_true, false_implies, true_implies, implies_true, Int.reduceEq, Int.reduceLT, Int.reduceLE, Int.reduceAdd, Int.reduceSub, Int.reduceMul, Int.reduceNeg, Int.reduceNe, Nat.reduceEqDiff, Nat.reduceAdd, Int.cast_ofNat_Int, ne_eq, ↓reduceIte, sr_eq, sr_sr, sr_ne, up_up, vp_jI]
    exact hp S1 L1 Q n hg.1 hg.2.1 (by omega) (by omega) (fun _ _ _ => rfl) (fun i a b => by omega) (fun q hq => absurd hf hq.1)
  · rw [e1, hmd] at hf
    have hU : S1 0 547 = pU (Q k) := by rw [← hmd]; rfl
    have hH : L1 12 (pU (Q k)) = pH (Q k) (pU (Q k)) := by rw [← hmd]; exact (mk_H ⟨by rw [hmd]; exact v4.1, by rw [hmd]; omega⟩).symm
    simp (disch := omega) only [M_kd, M_ref1, M_kd1, M_ln1, M_get1, M_put1, M_ref2, M_kd2, M_ln2, M_get2, M_put2, M_ref3, M_kd3, M_ln3, M_get3, M_put3, M_ref4, M_kd4, M_ln4, M_get4, M_put4, M_ref5, M_kd5, M_ln5, M_get5, M_put5, M_ref6, M_kd6, M_ln6, M_get6, M_put6, M_ref7, M_kd7, M_ln7, M_get7, M_put7, M_ref8, M_kd8, M_ln8, M_get8, M_put8, M_ref9, M_kd9, M_ln9, M_get9, M_put9, M_ref10, M_kd10, M_ln10, M_get10, M_put10, M_ref11, M_kd11, M_ln11, M_get11, M_put11, M_ref12, M_kd12, M_ln12, M_get12, M_put12, M_ref13, M_kd13, M_ln13, M_get13, M_put13, M_ref14, M_kd14, M_ln14, M_get14, M_put14, M_p526, M_g526, M_p527, M_g527, M_p529, M_g529, M_p530, M_g530, M_p531, M_g531, M_p532, M_g532, M_p533, M_g533, M_p534, M_g534, M_p535, M_g535, M_p536, M_g536, M_p537, M_g537, M_p542, M_g542, M_p545, M_g545, M_p546, M_g546, M_p547, M_g547, M_p548, M_g548, M_p550, M_g550, M_hz, M_hs, jL_mul, jL_add, jL_sub, jL_div, jL_rem, jL_of32, jI_of64, jI_add, jI_sub, jI_mul, jI_div, jI_rem, jI_neg, jI_eq, jI_lt, jI_le, jI_eq0, jI_lt0, jI_0lt, jI_le0, jI_0le, forall_eq, true_and, and_true, or_true, true_or, or_false, false_or, and_false, false_and, not_true_eq_false, not_false_eq_true, false_implies, true_implies, implies_true, Int.reduceEq, Int.reduceLT, Int.reduceLE, Int.reduceAdd, Int.reduceSub, Int.reduceMul, Int.reduceNeg, Int.reduceNe, Nat.reduceEqDiff, Nat.reduceAdd, Int.cast_ofNat_Int, ne_eq, ↓reduceIte, sr_eq, sr_sr, sr_ne, up_up, vp_jI, hU, hH]
    generalize hhand : pH (Q k) (pU (Q k)) = hand at *
    have hcnt : ∀ c, 0 ≤ c → c ≤ S 1 4 → 0 ≤ su 0 c (fun i => ifP (hasC hand i) 1 0) ∧ su 0 c (fun i => ifP (hasC hand i) 1 0) ≤ 5 := fun c a b => by
      have h5 := v7 (pU (Q k)) v4.1 (by omega)
      rw [hhand] at h5
      unfold cntC at h5
      rw [su_split (lo := 0) (mid := c) (hi := 40) a (by omega)] at h5
      have p1 : ∀ i : Int, 0 ≤ ifP (hasC hand i) (1 : Int) 0 := fun i => by
        by_cases g : hasC hand i
        · rw [ifP_t g]; omega
        · rw [ifP_f g]; omega
      have := su_nonneg (lo := c) (hi := 40) (f := fun i => ifP (hasC hand i) (1 : Int) 0) (fun i _ _ => p1 i)
      have := su_nonneg (lo := 0) (hi := c) (f := fun i => ifP (hasC hand i) (1 : Int) 0) (fun i _ _ => p1 i)
      omega
    have loop := up_loop (P := fun c => ∀ (S1 : Nat → Row) (L1 : Nat → Int → Int64) (Q1 : Int → Pos) (n1 : Int), GX (S 1) S Q n k S1 L1 Q1 n1 → n1 ≤ n + 2 * su 0 c (fun i => ifP (hasC hand i) 1 0) → (∀ c', 0 ≤ c' → c' < c → hasC hand c' → inQ Q1 n1 (mvP (S 1) 1 c' (Q k)) ∧ (playC (S 1) (Q k) c' → inQ Q1 n1 (mvP (S 1) 0 c' (Q k)))) → V 26 [(0, vR m), (1, vI (jI k)), (2, vJ hand), (4, vI (jI c))] [] (MH h0 m S1 L1)) (lo := 0) (hi := S 1 4) h4b.1 ?_ ?_
    · exact loop S1 L1 Q n hg (by rw [su_self]; omega) (fun c' a b => by omega)
    · intro S1 L1 Q1 n1 hg hnb hcl
      have hc5 := hcnt (S 1 4) h4b.1 (Int.le_refl _)
      have e1 : S1 1 = S 1 := hg.2.1.2 1 (by omega) (by omega) (by omega) (by omega)
      have hT : S1 0 545 = pT (Q k) := by rw [← hg.2.2.2.2.2]; rfl
      have hand0 : (lg_cmp hand (jL 0) = 0) ↔ hand = 0 := lg0
      have done : ∀ (S2 : Nat → Row) (L2 : Nat → Int → Int64) (Q2 : Int → Pos) (n2 : Int), XS (S 1) S2 L2 Q2 n2 → XF S S2 → n ≤ n2 → n2 ≤ 4019 → (∀ i, 0 ≤ i → i < n → Q2 i = Q i) → (∀ i, n ≤ i → i < n2 → stepP (S 1) (Q k) (Q2 i)) → (∀ q, inQ Q1 n1 q → inQ Q2 n2 q) → (0 < pT (Q k) → inQ Q2 n2 (mvP (S 1) 2 (-1) (Q k))) → (hand = 0 → inQ Q2 n2 (mvP (S 1) 3 (-1) (Q k))) → post none (MH h0 m S2 L2) := by
        intro S2 L2 Q2 n2 a1 a2 a3 a4 a5 a6 a7 a8 a9
        refine hp S2 L2 Q2 n2 a1 a2 a3 a4 a5 a6 (fun q hq => ?_)
        rcases hq.2 with ⟨c, c1, c2, c3, g | ⟨g1, g2⟩⟩ | ⟨t, g⟩ | ⟨z, g⟩
        · rw [hhand] at c3; rw [g]; exact a7 _ (hcl c c1 c2 c3).1
        · rw [hhand] at c3; rw [g2]; exact a7 _ ((hcl c c1 c2 c3).2 g1)
        · rw [g]; exact a8 t
        · rw [hhand] at z; rw [g]; exact a9 z
      have pass : ∀ (S2 : Nat → Row) (L2 : Nat → Int → Int64) (Q2 : Int → Pos) (n2 : Int), GX (S 1) S Q n k S2 L2 Q2 n2 → n2 ≤ n1 + 1 → (∀ q, inQ Q1 n1 q → inQ Q2 n2 q) → (0 < pT (Q k) → inQ Q2 n2 (mvP (S 1) 2 (-1) (Q k))) → hand = 0 → D G l (d - 1) mX7_moves [vR m, vI (jI 3), vI (jI (-1))] (MH h0 m S2 L2) (fun v h1 => v = none ∧ ((kd h1 m = 14) ∧ D G l (d - 1) mX7_adds [vR m] h1 (fun v h2 => v = none ∧ (post none h2)) xp)) xp := by
        intro S2 L2 Q2 n2 g2 hn2 hmono hint hz
        refine m_try (S := S) (Q := Q) (by omega) hr hQ hk hf g2 (by omega) (kind := 3) (c := -1) (Or.inr (Or.inr (Or.inr rfl))) ⟨hf, Or.inr (Or.inr ⟨by rw [hhand]; exact hz, rfl⟩)⟩ (fun S3 L3 Q3 n3 b1 b2 b3 b4 b5 b6 b7 b8 => ⟨rfl, ?_⟩)
        exact done S3 L3 Q3 n3 b1 b2 b3 (by omega) b4 b5 (fun q hq => b7 q (hmono q hq)) (fun t => b7 _ (hint t)) (fun _ => b8)
      refine b_X7_goesOn_26 C ?_
      simp (disch := omega) only [M_kd, M_ref1, M_kd1, M_ln1, M_get1, M_put1, M_ref2, M_kd2, M_ln2, M_get2, M_put2, M_ref3, M_kd3, M_ln3, M_get3, M_put3, M_ref4, M_kd4, M_ln4, M_get4, M_put4, M_ref5, M_kd5, M_ln5, M_get5, M_put5, M_ref6, M_kd6, M_ln6, M_get6, M_put6, M_ref7, M_kd7, M_ln7, M_get7, M_put7, M_ref8, M_kd8, M_ln8, M_get8, M_put8, M_ref9, M_kd9, M_ln9, M_get9, M_put9, M_ref10, M_kd10, M_ln10, M_get10, M_put10, M_ref11, M_kd11, M_ln11, M_get11, M_put11, M_ref12, M_kd12, M_ln12, M_get12, M_put12, M_ref13, M_kd13, M_ln13, M_get13, M_put13, M_ref14, M_kd14, M_ln14, M_get14, M_put14, M_p526, M_g526, M_p527, M_g527, M_p529, M_g529, M_p530, M_g530, M_p531, M_g531, M_p532, M_g532, M_p533, M_g533, M_p534, M_g534, M_p535, M_g535, M_p536, M_g536, M_p537, M_g537, M_p542, M_g542, M_p545, M_g545, M_p546, M_g546, M_p547, M_g547, M_p548, M_g548, M_p550, M_g550, M_hz, M_hs, jL_mul, jL_add, jL_sub, jL_div, jL_rem, jL_of32, jI_of64, jI_add, jI_sub, jI_mul, jI_div, jI_rem, jI_neg, jI_eq, jI_lt, jI_le, jI_eq0, jI_lt0, jI_0lt, jI_le0, jI_0le, forall_eq, true_and, and_true, or_true, true_or, or_false, false_or, and_false, false_and, not_true_eq_false, not_false_eq_true, false_implies, true_implies, implies_true, Int.reduceEq, Int.reduceLT, Int.reduceLE, Int.reduceAdd, Int.reduceSub, Int.reduceMul, Int.reduceNeg, Int.reduceNe, Nat.reduceEqDiff, Nat.reduceAdd, Int.cast_ofNat_Int, ne_eq, ↓reduceIte, sr_eq, sr_sr, sr_ne, up_up, vp_jI, e1, hT, hand0, Int.le_refl]
      refine ⟨fun q => ⟨fun q2 => ?_, fun q2 => ?_⟩, fun q => ?_⟩
      · exact done S1 L1 Q1 n1 hg.1 hg.2.1 hg.2.2.1 (by omega) hg.2.2.2.1 hg.2.2.2.2.1 (fun _ w => w) (fun t => by omega) (fun z => absurd z q2)
      · exact pass S1 L1 Q1 n1 hg (by omega) (fun _ w => w) (fun t => by omega) q2
      · refine m_try (S := S) (Q := Q) (by omega) hr hQ hk hf hg (by omega) (kind := 2) (c := -1) (Or.inr (Or.inr (Or.inl ⟨rfl, by omega⟩))) ⟨hf, Or.inr (Or.inl ⟨by omega, rfl⟩)⟩ (fun S3 L3 Q3 n3 b1 b2 b3 b4 b5 b6 b7 b8 => ⟨rfl, M_kd, ?_⟩)
        refine m_unp (S := S) (Q := Q) (by omega) hr hk b1 b2 (by omega) b4 b5 (fun S4 L4 g4 => ⟨rfl, ?_⟩)
        refine ⟨fun q2 => done S4 L4 Q3 n3 g4.1 g4.2.1 b3 (by omega) b4 b5 b7 (fun _ => b8) (fun z => absurd z q2), fun q2 => ⟨M_kd, pass S4 L4 Q3 n3 g4 b6 b7 (fun _ => b8) q2⟩⟩
    · intro c a1 a2 ih S1 L1 Q1 n1 hg hnb hcl
      have hc5 := hcnt (c + 1) (by omega) (by omega)
      have hc4 := hcnt c (by omega) (by omega)
      rw [su_succ a1] at ih hc5
      have e1 : S1 1 = S 1 := hg.2.1.2 1 (by omega) (by omega) (by omega) (by omega)
      have hbit : (lg_cmp ((jlshr hand (jI c)) &&& (jL 1)) (jL 0) = 0) ↔ ¬ hasC hand c := by
        rw [lg0]; unfold hasC
        exact ⟨fun e g => g e, fun g => Classical.not_not.mp g⟩
      refine b_X7_goesOn_26 C ?_
      simp (disch := omega) only [M_kd, M_ref1, M_kd1, M_ln1, M_get1, M_put1, M_ref2, M_kd2, M_ln2, M_get2, M_put2, M_ref3, M_kd3, M_ln3, M_get3, M_put3, M_ref4, M_kd4, M_ln4, M_get4, M_put4, M_ref5, M_kd5, M_ln5, M_get5, M_put5, M_ref6, M_kd6, M_ln6, M_get6, M_put6, M_ref7, M_kd7, M_ln7, M_get7, M_put7, M_ref8, M_kd8, M_ln8, M_get8, M_put8, M_ref9, M_kd9, M_ln9, M_get9, M_put9, M_ref10, M_kd10, M_ln10, M_get10, M_put10, M_ref11, M_kd11, M_ln11, M_get11, M_put11, M_ref12, M_kd12, M_ln12, M_get12, M_put12, M_ref13, M_kd13, M_ln13, M_get13, M_put13, M_ref14, M_kd14, M_ln14, M_get14, M_put14, M_p526, M_g526, M_p527, M_g527, M_p529, M_g529, M_p530, M_g530, M_p531, M_g531, M_p532, M_g532, M_p533, M_g533, M_p534, M_g534, M_p535, M_g535, M_p536, M_g536, M_p537, M_g537, M_p542, M_g542, M_p545, M_g545, M_p546, M_g546, M_p547, M_g547, M_p548, M_g548, M_p550, M_g550, M_hz, M_hs, jL_mul, jL_add, jL_sub, jL_div, jL_rem, jL_of32, jI_of64, jI_add, jI_sub, jI_mul, jI_div, jI_rem, jI_neg, jI_eq, jI_lt, jI_le, jI_eq0, jI_lt0, jI_0lt, jI_le0, jI_0le, forall_eq, true_and, and_true, or_true, true_or, or_false, false_or, and_false, false_and, not_true_eq_false, not_false_eq_true, false_implies, true_implies, implies_true, Int.reduceEq, Int.reduceLT, Int.reduceLE, Int.reduceAdd, Int.reduceSub, Int.reduceMul, Int.reduceNeg, Int.reduceNe, Nat.reduceEqDiff, Nat.reduceAdd, Int.cast_ofNat_Int, ne_eq, ↓reduceIte, sr_eq, sr_sr, sr_ne, up_up, vp_jI, e1, hbit]
      refine ⟨fun q => absurd q (by omega), fun _ => ⟨fun q => ?_, fun q => ?_⟩⟩
      · have hh : hasC hand c := Classical.not_not.mp q
        have hpos : pH (Q k) (pU (Q k)) = hand := hhand
        rw [ifP_t hh] at ih hc5
        have disc : ∀ (S2 : Nat → Row) (L2 : Nat → Int → Int64) (Q2 : Int → Pos) (n2 : Int), GX (S 1) S Q n k S2 L2 Q2 n2 → n2 ≤ n1 + 1 → (∀ q, inQ Q1 n1 q → inQ Q2 n2 q) → (playC (S 1) (Q k) c → inQ Q2 n2 (mvP (S 1) 0 c (Q k))) → D G l (d - 1) mX7_moves [vR m, vI (jI 1), vI (jI c)] (MH h0 m S2 L2) (fun v h1 => v = none ∧ ((kd h1 m = 14) ∧ D G l (d - 1) mX7_adds [vR m] h1 (fun v h2 => v = none ∧ ((kd h2 m = 14) ∧ D G l (d - 1) mX7_unpacks [vR m, vI (jI k)] h2 (fun v h3 => v = none ∧ (V 26 [(0, vR m), (1, vI (jI k)), (2, vJ hand), (4, vI (jI (c + 1)))] [] h3)) xp)) xp)) xp := by
          intro S2 L2 Q2 n2 g2 hn2 hmono hpl
          refine m_try (S := S) (Q := Q) (by omega) hr hQ hk hf g2 (by omega) (kind := 1) (c := c) (Or.inr (Or.inl ⟨rfl, ⟨a1, a2⟩, by rw [hpos]; exact hh⟩)) ⟨hf, Or.inl ⟨c, a1, a2, by rw [hpos]; exact hh, Or.inl rfl⟩⟩ (fun S3 L3 Q3 n3 b1 b2 b3 b4 b5 b6 b7 b8 => ⟨rfl, M_kd, ?_⟩)
          refine m_unp (S := S) (Q := Q) (by omega) hr hk b1 b2 (by omega) b4 b5 (fun S4 L4 g4 => ⟨rfl, ?_⟩)
          refine ih S4 L4 Q3 n3 g4 (by omega) (fun c' d1 d2 d3 => ?_)
          by_cases g : c' = c
          · subst g; exact ⟨b8, fun w => b7 _ (hpl w)⟩
          · have := hcl c' d1 (by omega) d3
            exact ⟨b7 _ (hmono _ this.1), fun w => b7 _ (hmono _ (this.2 w))⟩
        refine m_canPlay (S := S1) (L := L1) (by omega) (by rw [e1]; exact hr) (by rw [e1, hg.2.2.2.2.2]; exact hQ) (c := c) (by rw [e1]; exact ⟨a1, a2⟩) (fun w => ⟨_, rfl, ?_⟩) (fun w => ⟨_, rfl, ?_⟩)
        · rw [e1, hg.2.2.2.2.2] at w
          simp (disch := omega) only [M_kd, M_ref1, M_kd1, M_ln1, M_get1, M_put1, M_ref2, M_kd2, M_ln2, M_get2, M_put2, M_ref3, M_kd3, M_ln3, M_get3, M_put3, M_ref4, M_kd4, M_ln4, M_get4, M_put4, M_ref5, M_kd5, M_ln5, M_get5, M_put5, M_ref6, M_kd6, M_ln6, M_get6, M_put6, M_ref7, M_kd7, M_ln7, M_get7, M_put7, M_ref8, M_kd8, M_ln8, M_get8, M_put8, M_ref9, M_kd9, M_ln9, M_get9, M_put9, M_ref10, M_kd10, M_ln10, M_get10, M_put10, M_ref11, M_kd11, M_ln11, M_get11, M_put11, M_ref12, M_kd12, M_ln12, M_get12, M_put12, M_ref13, M_kd13, M_ln13, M_get13, M_put13, M_ref14, M_kd14, M_ln14, M_get14, M_put14, M_p526, M_g526, M_p527, M_g527, M_p529, M_g529, M_p530, M_g530, M_p531, M_g531, M_p532, M_g532, M_p533, M_g533, M_p534, M_g534, M_p535, M_g535, M_p536, M_g536, M_p537, M_g537, M_p542, M_g542, M_p545, M_g545, M_p546, M_g546, M_p547, M_g547, M_p548, M_g548, M_p550, M_g550, M_hz, M_hs, jL_mul, jL_add, jL_sub, jL_div, jL_rem, jL_of32, jI_of64, jI_add, jI_sub, jI_mul, jI_div, jI_rem, jI_neg, jI_eq, jI_lt, jI_le, jI_eq0, jI_lt0, jI_0lt, jI_le0, jI_0le, forall_eq, true_and, and_true, or_true, true_or, or_false, false_or, and_false, false_and, not_true_eq_false, not_false_eq_true, false_implies, true_implies, implies_true, Int.reduceEq, Int.reduceLT, Int.reduceLE, Int.reduceAdd, Int.reduceSub, Int.reduceMul, Int.reduceNeg, Int.reduceNe, Nat.reduceEqDiff, Nat.reduceAdd, Int.cast_ofNat_Int, ne_eq, ↓reduceIte, sr_eq, sr_sr, sr_ne, up_up, vp_jI]
          refine m_try (S := S) (Q := Q) (by omega) hr hQ hk hf hg (by omega) (kind := 0) (c := c) (Or.inl ⟨rfl, ⟨a1, a2⟩, by rw [hpos]; exact hh, w⟩) ⟨hf, Or.inl ⟨c, a1, a2, by rw [hpos]; exact hh, Or.inr ⟨w, rfl⟩⟩⟩ (fun S3 L3 Q3 n3 b1 b2 b3 b4 b5 b6 b7 b8 => ⟨rfl, M_kd, ?_⟩)
          refine m_unp (S := S) (Q := Q) (by omega) hr hk b1 b2 (by omega) b4 b5 (fun S4 L4 g4 => ⟨rfl, M_kd, ?_⟩)
          exact disc S4 L4 Q3 n3 g4 b6 b7 (fun _ => b8)
        · rw [e1, hg.2.2.2.2.2] at w
          simp (disch := omega) only [M_kd, M_ref1, M_kd1, M_ln1, M_get1, M_put1, M_ref2, M_kd2, M_ln2, M_get2, M_put2, M_ref3, M_kd3, M_ln3, M_get3, M_put3, M_ref4, M_kd4, M_ln4, M_get4, M_put4, M_ref5, M_kd5, M_ln5, M_get5, M_put5, M_ref6, M_kd6, M_ln6, M_get6, M_put6, M_ref7, M_kd7, M_ln7, M_get7, M_put7, M_ref8, M_kd8, M_ln8, M_get8, M_put8, M_ref9, M_kd9, M_ln9, M_get9, M_put9, M_ref10, M_kd10, M_ln10, M_get10, M_put10, M_ref11, M_kd11, M_ln11, M_get11, M_put11, M_ref12, M_kd12, M_ln12, M_get12, M_put12, M_ref13, M_kd13, M_ln13, M_get13, M_put13, M_ref14, M_kd14, M_ln14, M_get14, M_put14, M_p526, M_g526, M_p527, M_g527, M_p529, M_g529, M_p530, M_g530, M_p531, M_g531, M_p532, M_g532, M_p533, M_g533, M_p534, M_g534, M_p535, M_g535, M_p536, M_g536, M_p537, M_g537, M_p542, M_g542, M_p545, M_g545, M_p546, M_g546, M_p547, M_g547, M_p548, M_g548, M_p550, M_g550, M_hz, M_hs, jL_mul, jL_add, jL_sub, jL_div, jL_rem, jL_of32, jI_of64, jI_add, jI_sub, jI_mul, jI_div, jI_rem, jI_neg, jI_eq, jI_lt, jI_le, jI_eq0, jI_lt0, jI_0lt, jI_le0, jI_0le, forall_eq, true_and, and_true, or_true, true_or, or_false, false_or, and_false, false_and, not_true_eq_false, not_false_eq_true, false_implies, true_implies, implies_true, Int.reduceEq, Int.reduceLT, Int.reduceLE, Int.reduceAdd, Int.reduceSub, Int.reduceMul, Int.reduceNeg, Int.reduceNe, Nat.reduceEqDiff, Nat.reduceAdd, Int.cast_ofNat_Int, ne_eq, ↓reduceIte, sr_eq, sr_sr, sr_ne, up_up, vp_jI]
          exact disc S1 L1 Q1 n1 hg (by omega) (fun _ w => w) (fun g => absurd g w)
      · rw [ifP_f q, Int.add_zero] at ih
        refine ih S1 L1 Q1 n1 hg hnb (fun c' d1 d2 d3 => ?_)
        by_cases g : c' = c
        · subst g; exact absurd d3 q
        · exact hcl c' d1 (by omega) d3
end TWQ
section TWR
variable {G : Wd} {l : Launch} {d : Nat} {post : Option Value → VH → Prop} {xp : Nat → VH → Prop} {h0 h : VH} {m : Nat} {S : Nat → Row} {L : Nat → Int → Int64} {Q : Int → Pos} {n : Int}
theorem m_makesPresent (hd : 10 ≤ d) (hr : GI (S 1)) (hp : ∀ S' L', XM S S' L L' → mdP S' L' = prP (S 1) → post none (MH h0 m S' L')) : D G l d mX7_makesPresent [vR m] (MH h0 m S L) post xp := by
  obtain ⟨hc, h10, h6, h7, h8, h9, h12, h13, hl, hz, hs, hs2⟩ := hr
  obtain ⟨hcb, hpp, -, -, -, -, -, hsz, hhd, -⟩ := id hc
  refine D_in (by omega) rfl rfl fun V XV C => b_X7_makesPresent_0 C ?_
  have tail : ∀ L1 : Nat → Int → Int64, L1 9 = L 9 → (∀ i, 0 ≤ i → i < 4 → L1 12 i = handF (S 1) i (S 1 (187 + i)).toNat) → V 61 [(0, vR m), (1, vI (jI 0))] [] (MH h0 m S L1) := by
    intro L1 e9 e12
    refine up_loop (P := fun c => ∀ S1 : Nat → Row, (∀ k, k ≠ 13 → S1 k = S k) → (∀ i, 0 ≤ i → i < c → S1 13 i = S 1 (14 + i)) → V 61 [(0, vR m), (1, vI (jI c))] [] (MH h0 m S1 L1)) (lo := 0) (hi := 4) (by omega) ?_ ?_ S (fun _ _ => rfl) (fun i _ _ => by omega)
    · intro S1 eS eP
      refine b_X7_makesPresent_61 C ?_
      have e1 : S1 1 = S 1 := eS 1 (by omega)
      have e0 : S1 0 = S 0 := eS 0 (by omega)
      simp (disch := omega) only [M_kd, M_ref1, M_kd1, M_ln1, M_get1, M_put1, M_ref2, M_kd2, M_ln2, M_get2, M_put2, M_ref3, M_kd3, M_ln3, M_get3, M_put3, M_ref4, M_kd4, M_ln4, M_get4, M_put4, M_ref5, M_kd5, M_ln5, M_get5, M_put5, M_ref6, M_kd6, M_ln6, M_get6, M_put6, M_ref7, M_kd7, M_ln7, M_get7, M_put7, M_ref8, M_kd8, M_ln8, M_get8, M_put8, M_ref9, M_kd9, M_ln9, M_get9, M_put9, M_ref10, M_kd10, M_ln10, M_get10, M_put10, M_ref11, M_kd11, M_ln11, M_get11, M_put11, M_ref12, M_kd12, M_ln12, M_get12, M_put12, M_ref13, M_kd13, M_ln13, M_get13, M_put13, M_ref14, M_kd14, M_ln14, M_get14, M_put14, M_p526, M_g526, M_p527, M_g527, M_p529, M_g529, M_p530, M_g530, M_p531, M_g531, M_p532, M_g532, M_p533, M_g533, M_p534, M_g534, M_p535, M_g535, M_p536, M_g536, M_p537, M_g537, M_p542, M_g542, M_p545, M_g545, M_p546, M_g546, M_p547, M_g547, M_p548, M_g548, M_p550, M_g550, M_hz, M_hs, jL_mul, jL_add, jL_sub, jL_div, jL_rem, jL_of32, jI_of64, jI_add, jI_sub, jI_mul, jI_div, jI_rem, jI_neg, jI_eq, jI_lt, jI_le, jI_eq0, jI_lt0, jI_0lt, jI_le0, jI_0le, forall_eq, true_and, and_true, or_true, true_or, or_false, false_or, and_false, false_and, not_true_eq_false, not_false_eq_true, false_implies, true_implies, implies_true, Int.reduceEq, Int.reduceLT, Int.reduceLE, Int.reduceAdd, Int.reduceSub, Int.reduceMul, Int.reduceNeg, Int.reduceNe, Nat.reduceEqDiff, Nat.reduceAdd, Int.cast_ofNat_Int, ne_eq, ↓reduceIte, sr_eq, sr_sr, sr_ne, up_up, vp_jI, e1, e0, Int.le_refl]
      refine hp _ _ ⟨⟨fun j hj => ?_, fun i a b c e => ?_⟩, ?_, ?_, ?_, e9⟩ ?_
      · simp (disch := omega) only [sr_eq, up_ne]
      · simp (disch := omega) only [sr_ne]; exact eS i e
      · simp (disch := omega) only [sr_eq, up_ne]
      · simp (disch := omega) only [sr_ne]; exact eS 10 (by omega)
      · simp (disch := omega) only [sr_ne]; exact eS 11 (by omega)
      · unfold mdP prP
        simp (disch := omega) only [sr_ne, sr_eq, up_ne, up_eq]
        exact mkP_ext.mpr ⟨e12, eP, rfl, rfl, rfl, rfl⟩
    · intro c a1 a2 ih S1 eS eP
      refine b_X7_makesPresent_61 C ?_
      have e1 : S1 1 = S 1 := eS 1 (by omega)
      simp (disch := omega) only [M_kd, M_ref1, M_kd1, M_ln1, M_get1, M_put1, M_ref2, M_kd2, M_ln2, M_get2, M_put2, M_ref3, M_kd3, M_ln3, M_get3, M_put3, M_ref4, M_kd4, M_ln4, M_get4, M_put4, M_ref5, M_kd5, M_ln5, M_get5, M_put5, M_ref6, M_kd6, M_ln6, M_get6, M_put6, M_ref7, M_kd7, M_ln7, M_get7, M_put7, M_ref8, M_kd8, M_ln8, M_get8, M_put8, M_ref9, M_kd9, M_ln9, M_get9, M_put9, M_ref10, M_kd10, M_ln10, M_get10, M_put10, M_ref11, M_kd11, M_ln11, M_get11, M_put11, M_ref12, M_kd12, M_ln12, M_get12, M_put12, M_ref13, M_kd13, M_ln13, M_get13, M_put13, M_ref14, M_kd14, M_ln14, M_get14, M_put14, M_p526, M_g526, M_p527, M_g527, M_p529, M_g529, M_p530, M_g530, M_p531, M_g531, M_p532, M_g532, M_p533, M_g533, M_p534, M_g534, M_p535, M_g535, M_p536, M_g536, M_p537, M_g537, M_p542, M_g542, M_p545, M_g545, M_p546, M_g546, M_p547, M_g547, M_p548, M_g548, M_p550, M_g550, M_hz, M_hs, jL_mul, jL_add, jL_sub, jL_div, jL_rem, jL_of32, jI_of64, jI_add, jI_sub, jI_mul, jI_div, jI_rem, jI_neg, jI_eq, jI_lt, jI_le, jI_eq0, jI_lt0, jI_0lt, jI_le0, jI_0le, forall_eq, true_and, and_true, or_true, true_or, or_false, false_or, and_false, false_and, not_true_eq_false, not_false_eq_true, false_implies, true_implies, implies_true, Int.reduceEq, Int.reduceLT, Int.reduceLE, Int.reduceAdd, Int.reduceSub, Int.reduceMul, Int.reduceNeg, Int.reduceNe, Nat.reduceEqDiff, Nat.reduceAdd, Int.cast_ofNat_Int, ne_eq, ↓reduceIte, sr_eq, sr_sr, sr_ne, up_up, vp_jI, e1]
      refine ⟨fun g => absurd g (by omega), fun _ => ih _ (fun k hk => by rw [sr_ne hk]; exact eS k hk) (fun i b1 b2 => ?_)⟩
      rw [sr_eq]
      by_cases g : i = c
      · subst g; exact up_eq
      · rw [up_ne g]; exact eP i b1 (by omega)
  refine up_loop (P := fun p => ∀ L1 : Nat → Int → Int64, L1 9 = L 9 → (∀ i, 0 ≤ i → i < p → L1 12 i = handF (S 1) i (S 1 (187 + i)).toNat) → V 2 [(0, vR m), (1, vI (jI p))] [] (MH h0 m S L1)) (lo := 0) (hi := 4) (by omega) ?_ ?_ L rfl (fun i _ _ => by omega)
  · intro L1 e9 e12
    refine b_X7_makesPresent_2 C ?_
    simp (disch := omega) only [M_kd, M_ref1, M_kd1, M_ln1, M_get1, M_put1, M_ref2, M_kd2, M_ln2, M_get2, M_put2, M_ref3, M_kd3, M_ln3, M_get3, M_put3, M_ref4, M_kd4, M_ln4, M_get4, M_put4, M_ref5, M_kd5, M_ln5, M_get5, M_put5, M_ref6, M_kd6, M_ln6, M_get6, M_put6, M_ref7, M_kd7, M_ln7, M_get7, M_put7, M_ref8, M_kd8, M_ln8, M_get8, M_put8, M_ref9, M_kd9, M_ln9, M_get9, M_put9, M_ref10, M_kd10, M_ln10, M_get10, M_put10, M_ref11, M_kd11, M_ln11, M_get11, M_put11, M_ref12, M_kd12, M_ln12, M_get12, M_put12, M_ref13, M_kd13, M_ln13, M_get13, M_put13, M_ref14, M_kd14, M_ln14, M_get14, M_put14, M_p526, M_g526, M_p527, M_g527, M_p529, M_g529, M_p530, M_g530, M_p531, M_g531, M_p532, M_g532, M_p533, M_g533, M_p534, M_g534, M_p535, M_g535, M_p536, M_g536, M_p537, M_g537, M_p542, M_g542, M_p545, M_g545, M_p546, M_g546, M_p547, M_g547, M_p548, M_g548, M_p550, M_g550, M_hz, M_hs, jL_mul, jL_add, jL_sub, jL_div, jL_rem, jL_of32, jI_of64, jI_add, jI_sub, jI_mul, jI_div, jI_rem, jI_neg, jI_eq, jI_lt, jI_le, jI_eq0, jI_lt0, jI_0lt, jI_le0, jI_0le, forall_eq, true_and, and_true, or_true, true_or, or_false, false_or, and_false, false_and, not_true_eq_false, not_false_eq_true, false_implies, true_implies, implies_true, Int.reduceEq, Int.reduceLT, Int.reduceLE, Int.reduceAdd, Int.reduceSub, Int.reduceMul, Int.reduceNeg, Int.reduceNe, Nat.reduceEqDiff, Nat.reduceAdd, Int.cast_ofNat_Int, ne_eq, ↓reduceIte, sr_eq, sr_sr, sr_ne, up_up, vp_jI, Int.le_refl]
    exact tail L1 e9 e12
  · intro p a1 a2 ih L1 e9 e12
    refine b_X7_makesPresent_2 C ?_
    have hsp := hsz p a1 a2
    simp (disch := omega) only [M_kd, M_ref1, M_kd1, M_ln1, M_get1, M_put1, M_ref2, M_kd2, M_ln2, M_get2, M_put2, M_ref3, M_kd3, M_ln3, M_get3, M_put3, M_ref4, M_kd4, M_ln4, M_get4, M_put4, M_ref5, M_kd5, M_ln5, M_get5, M_put5, M_ref6, M_kd6, M_ln6, M_get6, M_put6, M_ref7, M_kd7, M_ln7, M_get7, M_put7, M_ref8, M_kd8, M_ln8, M_get8, M_put8, M_ref9, M_kd9, M_ln9, M_get9, M_put9, M_ref10, M_kd10, M_ln10, M_get10, M_put10, M_ref11, M_kd11, M_ln11, M_get11, M_put11, M_ref12, M_kd12, M_ln12, M_get12, M_put12, M_ref13, M_kd13, M_ln13, M_get13, M_put13, M_ref14, M_kd14, M_ln14, M_get14, M_put14, M_p526, M_g526, M_p527, M_g527, M_p529, M_g529, M_p530, M_g530, M_p531, M_g531, M_p532, M_g532, M_p533, M_g533, M_p534, M_g534, M_p535, M_g535, M_p536, M_g536, M_p537, M_g537, M_p542, M_g542, M_p545, M_g545, M_p546, M_g546, M_p547, M_g547, M_p548, M_g548, M_p550, M_g550, M_hz, M_hs, jL_mul, jL_add, jL_sub, jL_div, jL_rem, jL_of32, jI_of64, jI_add, jI_sub, jI_mul, jI_div, jI_rem, jI_neg, jI_eq, jI_lt, jI_le, jI_eq0, jI_lt0, jI_0lt, jI_le0, jI_0le, forall_eq, true_and, and_true, or_true, true_or, or_false, false_or, and_false, false_and, not_true_eq_false, not_false_eq_true, false_implies, true_implies, implies_true, Int.reduceEq, Int.reduceLT, Int.reduceLE, Int.reduceAdd, Int.reduceSub, Int.reduceMul, Int.reduceNeg, Int.reduceNe, Nat.reduceEqDiff, Nat.reduceAdd, Int.cast_ofNat_Int, ne_eq, ↓reduceIte, sr_eq, sr_sr, sr_ne, up_up, vp_jI]
    refine ⟨fun g => absurd g (by omega), fun _ => ?_⟩
    refine up_loop (P := fun k => ∀ L2 : Nat → Int → Int64, L2 9 = L 9 → (∀ i, 0 ≤ i → i < p → L2 12 i = handF (S 1) i (S 1 (187 + i)).toNat) → L2 12 p = handF (S 1) p k.toNat → V 16 [(0, vR m), (1, vI (jI p)), (2, vI (jI k))] [] (MH h0 m S L2)) (lo := 0) (hi := S 1 (187 + p)) (by omega) ?_ ?_ _ ?_ ?_ ?_
    · intro L2 f9 f12 fp
      refine b_X7_makesPresent_16 C ?_
      simp (disch := omega) only [M_kd, M_ref1, M_kd1, M_ln1, M_get1, M_put1, M_ref2, M_kd2, M_ln2, M_get2, M_put2, M_ref3, M_kd3, M_ln3, M_get3, M_put3, M_ref4, M_kd4, M_ln4, M_get4, M_put4, M_ref5, M_kd5, M_ln5, M_get5, M_put5, M_ref6, M_kd6, M_ln6, M_get6, M_put6, M_ref7, M_kd7, M_ln7, M_get7, M_put7, M_ref8, M_kd8, M_ln8, M_get8, M_put8, M_ref9, M_kd9, M_ln9, M_get9, M_put9, M_ref10, M_kd10, M_ln10, M_get10, M_put10, M_ref11, M_kd11, M_ln11, M_get11, M_put11, M_ref12, M_kd12, M_ln12, M_get12, M_put12, M_ref13, M_kd13, M_ln13, M_get13, M_put13, M_ref14, M_kd14, M_ln14, M_get14, M_put14, M_p526, M_g526, M_p527, M_g527, M_p529, M_g529, M_p530, M_g530, M_p531, M_g531, M_p532, M_g532, M_p533, M_g533, M_p534, M_g534, M_p535, M_g535, M_p536, M_g536, M_p537, M_g537, M_p542, M_g542, M_p545, M_g545, M_p546, M_g546, M_p547, M_g547, M_p548, M_g548, M_p550, M_g550, M_hz, M_hs, jL_mul, jL_add, jL_sub, jL_div, jL_rem, jL_of32, jI_of64, jI_add, jI_sub, jI_mul, jI_div, jI_rem, jI_neg, jI_eq, jI_lt, jI_le, jI_eq0, jI_lt0, jI_0lt, jI_le0, jI_0le, forall_eq, true_and, and_true, or_true, true_or, or_false, false_or, and_false, false_and, not_true_eq_false, not_false_eq_true, false_implies, true_implies, implies_true, Int.reduceEq, Int.reduceLT, Int.reduceLE, Int.reduceAdd, Int.reduceSub, Int.reduceMul, Int.reduceNeg, Int.reduceNe, Nat.reduceEqDiff, Nat.reduceAdd, Int.cast_ofNat_Int, ne_eq, ↓reduceIte, sr_eq, sr_sr, sr_ne, up_up, vp_jI, Int.le_refl]
      refine ih L2 f9 (fun i b1 b2 => ?_)
      by_cases g : i = p
      · subst g; exact fp
      · exact f12 i b1 (by omega)
    · intro k b1 b2 ih2 L2 f9 f12 fp
      have hk := hhd p k a1 a2 b1 (by omega)
      refine b_X7_makesPresent_16 C ?_
      simp (disch := omega) only [M_kd, M_ref1, M_kd1, M_ln1, M_get1, M_put1, M_ref2, M_kd2, M_ln2, M_get2, M_put2, M_ref3, M_kd3, M_ln3, M_get3, M_put3, M_ref4, M_kd4, M_ln4, M_get4, M_put4, M_ref5, M_kd5, M_ln5, M_get5, M_put5, M_ref6, M_kd6, M_ln6, M_get6, M_put6, M_ref7, M_kd7, M_ln7, M_get7, M_put7, M_ref8, M_kd8, M_ln8, M_get8, M_put8, M_ref9, M_kd9, M_ln9, M_get9, M_put9, M_ref10, M_kd10, M_ln10, M_get10, M_put10, M_ref11, M_kd11, M_ln11, M_get11, M_put11, M_ref12, M_kd12, M_ln12, M_get12, M_put12, M_ref13, M_kd13, M_ln13, M_get13, M_put13, M_ref14, M_kd14, M_ln14, M_get14, M_put14, M_p526, M_g526, M_p527, M_g527, M_p529, M_g529, M_p530, M_g530, M_p531, M_g531, M_p532, M_g532, M_p533, M_g533, M_p534, M_g534, M_p535, M_g535, M_p536, M_g536, M_p537, M_g537, M_p542, M_g542, M_p545, M_g545, M_p546, M_g546, M_p547, M_g547, M_p548, M_g548, M_p550, M_g550, M_hz, M_hs, jL_mul, jL_add, jL_sub, jL_div, jL_rem, jL_of32, jI_of64, jI_add, jI_sub, jI_mul, jI_div, jI_rem, jI_neg, jI_eq, jI_lt, jI_le, jI_eq0, jI_lt0, jI_0lt, jI_le0, jI_0le, forall_eq, true_and, and_true, or_true, true_or, or_false, false_or, and_false, false_and, not_true_eq_false, not_false_eq_true, false_implies, true_implies, implies_true, Int.reduceEq, Int.reduceLT, Int.reduceLE, Int.reduceAdd, Int.reduceSub, Int.reduceMul, Int.reduceNeg, Int.reduceNe, Nat.reduceEqDiff, Nat.reduceAdd, Int.cast_ofNat_Int, ne_eq, ↓reduceIte, sr_eq, sr_sr, sr_ne, up_up, vp_jI]
      refine ⟨fun g => absurd g (by omega), fun _ => m_held (by omega) ⟨a1, a2⟩ (by omega) ⟨_, rfl, ?_⟩⟩
      simp (disch := omega) only [M_kd, M_ref1, M_kd1, M_ln1, M_get1, M_put1, M_ref2, M_kd2, M_ln2, M_get2, M_put2, M_ref3, M_kd3, M_ln3, M_get3, M_put3, M_ref4, M_kd4, M_ln4, M_get4, M_put4, M_ref5, M_kd5, M_ln5, M_get5, M_put5, M_ref6, M_kd6, M_ln6, M_get6, M_put6, M_ref7, M_kd7, M_ln7, M_get7, M_put7, M_ref8, M_kd8, M_ln8, M_get8, M_put8, M_ref9, M_kd9, M_ln9, M_get9, M_put9, M_ref10, M_kd10, M_ln10, M_get10, M_put10, M_ref11, M_kd11, M_ln11, M_get11, M_put11, M_ref12, M_kd12, M_ln12, M_get12, M_put12, M_ref13, M_kd13, M_ln13, M_get13, M_put13, M_ref14, M_kd14, M_ln14, M_get14, M_put14, M_p526, M_g526, M_p527, M_g527, M_p529, M_g529, M_p530, M_g530, M_p531, M_g531, M_p532, M_g532, M_p533, M_g533, M_p534, M_g534, M_p535, M_g535, M_p536, M_g536, M_p537, M_g537, M_p542, M_g542, M_p545, M_g545, M_p546, M_g546, M_p547, M_g547, M_p548, M_g548, M_p550, M_g550, M_hz, M_hs, jL_mul, jL_add, jL_sub, jL_div, jL_rem, jL_of32, jI_of64, jI_add, jI_sub, jI_mul, jI_div, jI_rem, jI_neg, jI_eq, jI_lt, jI_le, jI_eq0, jI_lt0, jI_0lt, jI_le0, jI_0le, forall_eq, true_and, and_true, or_true, true_or, or_false, false_or, and_false, false_and, not_true_eq_false, not_false_eq_true, false_implies, true_implies, implies_true, Int.reduceEq, Int.reduceLT, Int.reduceLE, Int.reduceAdd, Int.reduceSub, Int.reduceMul, Int.reduceNeg, Int.reduceNe, Nat.reduceEqDiff, Nat.reduceAdd, Int.cast_ofNat_Int, ne_eq, ↓reduceIte, sr_eq, sr_sr, sr_ne, up_up, vp_jI]
      refine ih2 _ (by rw [sr_ne (by omega)]; exact f9) (fun i c1 c2 => by rw [sr_eq, upL_ne (by omega)]; exact f12 i c1 c2) ?_
      rw [sr_eq, upL_eq, fp, show (k + 1).toNat = k.toNat + 1 by omega]
      show _ = setC (handF (S 1) p k.toNat) (S 1 (191 + 5 * p + (k.toNat : Int)))
      rw [Int.toNat_of_nonneg b1]; rfl
    · rw [sr_ne (by omega)]; exact e9
    · intro i b1 b2; rw [sr_eq, upL_ne (by omega)]; exact e12 i b1 b2
    · rw [sr_eq, upL_eq]; rfl
theorem list_cut {r : Row} {p0 : Pos} {n' : Int} (h : listP r p0 Q n) (h1 : 1 ≤ n') (h2 : n' ≤ n) : listP r p0 Q n' :=
  ⟨h1, h.2.1, fun i a b => h.2.2.1 i a (by omega), fun i j a b c e g => h.2.2.2 i j a (by omega) c (by omega) g⟩
theorem m_searches (hd : 17 ≤ d) (hr : RX (S 1)) (hv : VP (S 1) (mdP S L)) (hp : ∀ S' L', XF S S' → (valF (S 1) (mdP S L) ≠ -8 → S' 0 542 = posF (S 1) (mdP S L)) → post (some (.int (jI (valF (S 1) (mdP S L))))) (MH h0 m S' L')) : D G l d mX7_searches [vR m] (MH h0 m S L) post xp := by
  generalize hp0 : mdP S L = p0 at *
  refine D_in (by omega) rfl rfl fun V XV C => b_X7_searches_0 C ?_
  have main : ∀ N : Nat, ∀ (i v : Int) (S1 : Nat → Row) (L1 : Nat → Int → Int64) (Q1 : Int → Pos) (n1 : Int), XS (S 1) S1 L1 Q1 n1 → XF S S1 → listP (S 1) p0 Q1 n1 → closedP (S 1) Q1 n1 i → 0 ≤ i ∧ i ≤ n1 → n1 ≤ 4000 → (0 ≤ v ∧ v ≤ 20) → (∀ j, 0 ≤ j → j < i → scoreP (Q1 j) ≤ v) → (v = 0 ∨ ∃ j, 0 ≤ j ∧ j < i ∧ scoreP (Q1 j) = v) → 4001 - i ≤ N → V 35 [(0, vR m), (1, vI (jI v)), (2, vI (jI i))] [] (MH h0 m S1 L1) := by
    intro N
    induction N with
    | zero => intro i v S1 L1 Q1 n1 _ _ _ _ _ _ _ _ _ _; omega
    | succ N ih =>
      intro i v S1 L1 Q1 n1 hX hF hL hC hi hn hvb hle hex hN
      have e1 : S1 1 = S 1 := hF.2 1 (by omega) (by omega) (by omega) (by omega)
      refine b_X7_searches_35 C ?_
      simp (disch := omega) only [M_kd, M_ref1, M_kd1, M_ln1, M_get1, M_put1, M_ref2, M_kd2, M_ln2, M_get2, M_put2, M_ref3, M_kd3, M_ln3, M_get3, M_put3, M_ref4, M_kd4, M_ln4, M_get4, M_put4, M_ref5, M_kd5, M_ln5, M_get5, M_put5, M_ref6, M_kd6, M_ln6, M_get6, M_put6, M_ref7, M_kd7, M_ln7, M_get7, M_put7, M_ref8, M_kd8, M_ln8, M_get8, M_put8, M_ref9, M_kd9, M_ln9, M_get9, M_put9, M_ref10, M_kd10, M_ln10, M_get10, M_put10, M_ref11, M_kd11, M_ln11, M_get11, M_put11, M_ref12, M_kd12, M_ln12, M_get12, M_put12, M_ref13, M_kd13, M_ln13, M_get13, M_put13, M_ref14, M_kd14, M_ln14, M_get14, M_put14, M_p526, M_g526, M_p527, M_g527, M_p529, M_g529, M_p530, M_g530, M_p531, M_g531, M_p532, M_g532, M_p533, M_g533, M_p534, M_g534, M_p535, M_g535, M_p536, M_g536, M_p537, M_g537, M_p542, M_g542, M_p545, M_g545, M_p546, M_g546, M_p547, M_g547, M_p548, M_g548, M_p550, M_g550, M_hz, M_hs, jL_mul, jL_add, jL_sub, jL_div, jL_rem, jL_of32, jI_of64, jI_add, jI_sub, jI_mul, jI_div, jI_rem, jI_neg, jI_eq, jI_lt, jI_le, jI_eq0, jI_lt0, jI_0lt, jI_le0, jI_0le, forall_eq, true_and, and_true, or_true, true_or, or_false, false_or, and_false, false_and, not_true_eq_false, not_false_eq_true, false_implies, true_implies, implies_true, Int.reduceEq, Int.reduceLT, Int.reduceLE, Int.reduceAdd, Int.reduceSub, Int.reduceMul, Int.reduceNeg, Int.reduceNe, Nat.reduceEqDiff, Nat.reduceAdd, Int.cast_ofNat_Int, ne_eq, ↓reduceIte, sr_eq, sr_sr, sr_ne, up_up, vp_jI, hX.1]
      refine ⟨fun g => ?_, fun g => ?_⟩
      · have hi1 : i = n1 := by omega
        subst hi1
        have hF2 : FinP (S 1) p0 i v := ⟨Q1, hL, hC, hle, by
          rcases hex with h | h
          · refine ⟨0, by omega, by have := hL.1; omega, ?_⟩
            have h1 := hle 0 (by omega) (by have := hL.1; omega)
            have h2 := score_bd hr (hX.2.2.1 0 (by omega) (by have := hL.1; omega)).1
            omega
          · exact h⟩
        obtain ⟨w1, w2⟩ := val_fin hF2 hn
        rw [← w1]
        exact hp S1 L1 hF (fun _ => by rw [w2]; exact hX.1)
      · refine m_goesOn (S := S1) (L := L1) (Q := Q1) (n := n1) (k := i) (by omega) (by rw [e1]; exact hr) (by rw [e1]; exact hX) (by omega) (by omega) (fun S2 L2 Q2 n2 a1 a2 a3 a4 a5 a6 a7 => ⟨rfl, M_kd, ?_⟩)
        rw [e1] at a1 a6 a7
        have e2 : S2 1 = S 1 := (a2.2 1 (by omega) (by omega) (by omega) (by omega)).trans e1
        have hL2 : listP (S 1) p0 Q2 n2 := by
          refine ⟨by have := hL.1; omega, ?_, fun j b1 b2 => ?_, a1.2.2.2.2⟩
          · rw [a5 0 (by omega) (by have := hL.1; omega)]; exact hL.2.1
          · by_cases q : j < n1
            · rw [a5 j b1 q]; exact hL.2.2.1 j b1 q
            · exact reach_step (hL.2.2.1 i hi.1 (by omega)) (a6 j (by omega) b2)
        have hb1 := a1.1
        simp (disch := omega) only [M_kd, M_ref1, M_kd1, M_ln1, M_get1, M_put1, M_ref2, M_kd2, M_ln2, M_get2, M_put2, M_ref3, M_kd3, M_ln3, M_get3, M_put3, M_ref4, M_kd4, M_ln4, M_get4, M_put4, M_ref5, M_kd5, M_ln5, M_get5, M_put5, M_ref6, M_kd6, M_ln6, M_get6, M_put6, M_ref7, M_kd7, M_ln7, M_get7, M_put7, M_ref8, M_kd8, M_ln8, M_get8, M_put8, M_ref9, M_kd9, M_ln9, M_get9, M_put9, M_ref10, M_kd10, M_ln10, M_get10, M_put10, M_ref11, M_kd11, M_ln11, M_get11, M_put11, M_ref12, M_kd12, M_ln12, M_get12, M_put12, M_ref13, M_kd13, M_ln13, M_get13, M_put13, M_ref14, M_kd14, M_ln14, M_get14, M_put14, M_p526, M_g526, M_p527, M_g527, M_p529, M_g529, M_p530, M_g530, M_p531, M_g531, M_p532, M_g532, M_p533, M_g533, M_p534, M_g534, M_p535, M_g535, M_p536, M_g536, M_p537, M_g537, M_p542, M_g542, M_p545, M_g545, M_p546, M_g546, M_p547, M_g547, M_p548, M_g548, M_p550, M_g550, M_hz, M_hs, jL_mul, jL_add, jL_sub, jL_div, jL_rem, jL_of32, jI_of64, jI_add, jI_sub, jI_mul, jI_div, jI_rem, jI_neg, jI_eq, jI_lt, jI_le, jI_eq0, jI_lt0, jI_0lt, jI_le0, jI_0le, forall_eq, true_and, and_true, or_true, true_or, or_false, false_or, and_false, false_and, not_true_eq_false, not_false_eq_true, false_implies, true_implies, implies_true, Int.reduceEq, Int.reduceLT, Int.reduceLE, Int.reduceAdd, Int.reduceSub, Int.reduceMul, Int.reduceNeg, Int.reduceNe, Nat.reduceEqDiff, Nat.reduceAdd, Int.cast_ofNat_Int, ne_eq, ↓reduceIte, sr_eq, sr_sr, sr_ne, up_up, vp_jI, hb1]
        refine ⟨fun g2 => ?_, fun g2 => ?_⟩
        · refine m_unpacks (S := S2) (L := L2) (Q := Q2) (n := n2) (k := i) (by omega) (by rw [e2]; exact hr) (by rw [e2]; exact a1) (by omega) (by omega) (fun S3 L3 b1 b2 => ⟨rfl, M_kd, ?_⟩)
          refine m_scoreMade (by omega) ⟨_, rfl, ?_⟩
          rw [b2]
          have hvi : VP (S 1) (Q2 i) := (a1.2.2.1 i hi.1 (by omega)).1
          have hsb := score_bd hr hvi
          rw [j_max ⟨by omega, by omega⟩ ⟨by omega, by omega⟩]
          have hn2 : n2 ≤ 4000 := by omega
          refine ih (i + 1) (max v (scoreP (Q2 i))) S3 L3 Q2 n2 (a1.mov b1) (hF.trans (a2.trans b1.1)) hL2 ?_ (by omega) hn2 (by omega) (fun j c1 c2 => ?_) ?_ (by omega)
          · intro j c1 c2 q hq
            by_cases g3 : j = i
            · subst g3
              rw [a5 j c1 (by omega)] at hq
              exact a7 q hq
            · rw [a5 j c1 (by omega)] at hq
              obtain ⟨j', d1, d2, d3⟩ := hC j c1 (by omega) q hq
              exact ⟨j', d1, by omega, by rw [a5 j' d1 d2]; exact d3⟩
          · by_cases g3 : j = i
            · subst g3; omega
            · have := hle j c1 (by omega)
              rw [a5 j c1 (by omega)]; omega
          · by_cases g3 : v ≤ scoreP (Q2 i)
            · exact Or.inr ⟨i, hi.1, by omega, by omega⟩
            · rcases hex with h | ⟨j, c1, c2, c3⟩
              · omega
              · exact Or.inr ⟨j, c1, by omega, by rw [a5 j c1 (by omega)]; omega⟩
        · have hM : ManyP (S 1) p0 := ⟨Q2, list_cut hL2 (by omega) (by omega)⟩
          obtain ⟨w1, w2⟩ := val_many hM
          have := hp S2 L2 (hF.trans a2) (fun w => absurd w1 w)
          rw [w1] at this
          exact this
  refine up_loop (P := fun s => ∀ S1 : Nat → Row, (∀ k, k ≠ 11 → S1 k = S k) → (∀ i, 0 ≤ i → i < s → S1 11 i = -1) → V 2 [(0, vR m), (1, vI (jI s))] [] (MH h0 m S1 L)) (lo := 0) (hi := 16384) (by omega) ?_ ?_ S (fun _ _ => rfl) (fun i _ _ => by omega)
  · intro S1 eS eT
    refine b_X7_searches_2 C ?_
    have e1 : S1 1 = S 1 := eS 1 (by omega)
    have e0 : S1 0 = S 0 := eS 0 (by omega)
    have e13 : S1 13 = S 13 := eS 13 (by omega)
    simp (disch := omega) only [M_kd, M_ref1, M_kd1, M_ln1, M_get1, M_put1, M_ref2, M_kd2, M_ln2, M_get2, M_put2, M_ref3, M_kd3, M_ln3, M_get3, M_put3, M_ref4, M_kd4, M_ln4, M_get4, M_put4, M_ref5, M_kd5, M_ln5, M_get5, M_put5, M_ref6, M_kd6, M_ln6, M_get6, M_put6, M_ref7, M_kd7, M_ln7, M_get7, M_put7, M_ref8, M_kd8, M_ln8, M_get8, M_put8, M_ref9, M_kd9, M_ln9, M_get9, M_put9, M_ref10, M_kd10, M_ln10, M_get10, M_put10, M_ref11, M_kd11, M_ln11, M_get11, M_put11, M_ref12, M_kd12, M_ln12, M_get12, M_put12, M_ref13, M_kd13, M_ln13, M_get13, M_put13, M_ref14, M_kd14, M_ln14, M_get14, M_put14, M_p526, M_g526, M_p527, M_g527, M_p529, M_g529, M_p530, M_g530, M_p531, M_g531, M_p532, M_g532, M_p533, M_g533, M_p534, M_g534, M_p535, M_g535, M_p536, M_g536, M_p537, M_g537, M_p542, M_g542, M_p545, M_g545, M_p546, M_g546, M_p547, M_g547, M_p548, M_g548, M_p550, M_g550, M_hz, M_hs, jL_mul, jL_add, jL_sub, jL_div, jL_rem, jL_of32, jI_of64, jI_add, jI_sub, jI_mul, jI_div, jI_rem, jI_neg, jI_eq, jI_lt, jI_le, jI_eq0, jI_lt0, jI_0lt, jI_le0, jI_0le, forall_eq, true_and, and_true, or_true, true_or, or_false, false_or, and_false, false_and, not_true_eq_false, not_false_eq_true, false_implies, true_implies, implies_true, Int.reduceEq, Int.reduceLT, Int.reduceLE, Int.reduceAdd, Int.reduceSub, Int.reduceMul, Int.reduceNeg, Int.reduceNe, Nat.reduceEqDiff, Nat.reduceAdd, Int.cast_ofNat_Int, ne_eq, ↓reduceIte, sr_eq, sr_sr, sr_ne, up_up, vp_jI, Int.le_refl]
    have hmd : mdP (sr S1 0 (up (S1 0) 542 0)) L = p0 := by
      unfold mdP
      simp (disch := omega) only [sr_ne, sr_eq, up_ne]
      rw [e13, e0]; exact hp0
    have hx0 : XS (S 1) (sr S1 0 (up (S1 0) 542 0)) L (fun _ => p0) 0 := by
      refine ⟨by rw [sr_eq, up_eq], Int.le_refl _, fun k a b => by omega, ?_, fun i j a b => by omega⟩
      rw [sr_ne (by omega)]
      refine ⟨fun s a b => by rw [eT s a b]; omega, fun s s' a b c f g1 g2 => absurd (eT s a b) g2, fun k a b => by omega⟩
    have hf0 : XF S (sr S1 0 (up (S1 0) 542 0)) := ⟨fun j hj => by rw [sr_eq, up_ne (by omega), e0], fun k a b c e => by rw [sr_ne (by omega)]; exact eS k (by omega)⟩
    have er : (sr S1 0 (up (S1 0) 542 0)) 1 = S 1 := by rw [sr_ne (by omega)]; exact e1
    refine m_adds (S := sr S1 0 (up (S1 0) 542 0)) (L := L) (Q := fun _ => p0) (n := 0) (by omega) (by rw [er]; exact hr) (by rw [er]; exact hx0) (by omega) (by rw [er, hmd]; exact hv) (fun S2 L2 Q2 n2 a1 a2 a3 a4 a5 a6 a7 => ⟨rfl, ?_⟩)
    rw [er] at a1
    rw [hmd] at a6 a7
    obtain ⟨i0, b1, b2, b3⟩ := a7
    refine main 4001 0 0 S2 L2 Q2 n2 a1 (hf0.trans a2) ⟨by omega, a6 0 (by omega) (by omega), fun i c1 c2 => by rw [a6 i c1 c2]; exact reach_refl, a1.2.2.2.2⟩ (fun i c1 c2 => by omega) (by omega) (by omega) (by omega) (fun j c1 c2 => by omega) (Or.inl rfl) (by omega)
  · intro s a1 a2 ih S1 eS eT
    refine b_X7_searches_2 C ?_
    simp (disch := omega) only [M_kd, M_ref1, M_kd1, M_ln1, M_get1, M_put1, M_ref2, M_kd2, M_ln2, M_get2, M_put2, M_ref3, M_kd3, M_ln3, M_get3, M_put3, M_ref4, M_kd4, M_ln4, M_get4, M_put4, M_ref5, M_kd5, M_ln5, M_get5, M_put5, M_ref6, M_kd6, M_ln6, M_get6, M_put6, M_ref7, M_kd7, M_ln7, M_get7, M_put7, M_ref8, M_kd8, M_ln8, M_get8, M_put8, M_ref9, M_kd9, M_ln9, M_get9, M_put9, M_ref10, M_kd10, M_ln10, M_get10, M_put10, M_ref11, M_kd11, M_ln11, M_get11, M_put11, M_ref12, M_kd12, M_ln12, M_get12, M_put12, M_ref13, M_kd13, M_ln13, M_get13, M_put13, M_ref14, M_kd14, M_ln14, M_get14, M_put14, M_p526, M_g526, M_p527, M_g527, M_p529, M_g529, M_p530, M_g530, M_p531, M_g531, M_p532, M_g532, M_p533, M_g533, M_p534, M_g534, M_p535, M_g535, M_p536, M_g536, M_p537, M_g537, M_p542, M_g542, M_p545, M_g545, M_p546, M_g546, M_p547, M_g547, M_p548, M_g548, M_p550, M_g550, M_hz, M_hs, jL_mul, jL_add, jL_sub, jL_div, jL_rem, jL_of32, jI_of64, jI_add, jI_sub, jI_mul, jI_div, jI_rem, jI_neg, jI_eq, jI_lt, jI_le, jI_eq0, jI_lt0, jI_0lt, jI_le0, jI_0le, forall_eq, true_and, and_true, or_true, true_or, or_false, false_or, and_false, false_and, not_true_eq_false, not_false_eq_true, false_implies, true_implies, implies_true, Int.reduceEq, Int.reduceLT, Int.reduceLE, Int.reduceAdd, Int.reduceSub, Int.reduceMul, Int.reduceNeg, Int.reduceNe, Nat.reduceEqDiff, Nat.reduceAdd, Int.cast_ofNat_Int, ne_eq, ↓reduceIte, sr_eq, sr_sr, sr_ne, up_up, vp_jI]
    refine ⟨fun g => absurd g (by omega), fun _ => ih _ (fun k hk => by rw [sr_ne hk]; exact eS k hk) (fun i b1 b2 => ?_)⟩
    rw [sr_eq]
    by_cases g : i = s
    · subst g; exact up_eq
    · rw [up_ne g]; exact eT i b1 (by omega)
end TWR
