set_option maxRecDepth 100000
section TWV
variable {G : Wd} {l : Launch} {d : Nat} {post : Option Value → VH → Prop} {xp : Nat → VH → Prop} {h0 h : VH} {m : Nat} {S : Nat → Row} {L : Nat → Int → Int64} {Q : Int → Pos} {n : Int}
noncomputable def valN (r : Row) : Int := ifP (r 12 = 0) (valF r (prP r)) (scoreR r)
noncomputable def posN (r : Row) : Int := ifP (r 12 = 0) (posF r (prP r)) 1
theorem r2_of {r : Row} (h : GI r) (h12 : r 12 = 0) : 0 < r 2 := by
  have h2 := h.1.1.2.2.1
  have h3 := h.2.2.2.2.2.2.1
  by_cases q : r 2 = 0
  · rw [if_pos q] at h3; omega
  · omega
theorem r12_bd {r : Row} (h : GI r) : 0 ≤ r 12 ∧ r 12 ≤ 3 := by
  have h3 := h.2.2.2.2.2.2.1
  have := overR_bd (r := r)
  rw [h3]; split <;> omega
theorem m_valueNow (hd : 18 ≤ d) (hr : GI (S 1)) (hp : ∀ S' L', XF S S' → (valN (S 1) ≠ -8 → S' 0 542 = posN (S 1)) → post (some (.int (jI (valN (S 1))))) (MH h0 m S' L')) : D G l d mX7_valueNow [vR m] (MH h0 m S L) post xp := by
  have hf1 : XF S (sr S 0 (up (S 0) 542 1)) := ⟨fun j hj => by rw [sr_eq, up_ne (by omega)], fun k a b c e => sr_ne (by omega)⟩
  have hb := r12_bd hr
  refine t_X7_valueNow (by omega) ?_
  simp (disch := omega) only [M_kd, M_ref1, M_kd1, M_ln1, M_get1, M_put1, M_ref2, M_kd2, M_ln2, M_get2, M_put2, M_ref3, M_kd3, M_ln3, M_get3, M_put3, M_ref4, M_kd4, M_ln4, M_get4, M_put4, M_ref5, M_kd5, M_ln5, M_get5, M_put5, M_ref6, M_kd6, M_ln6, M_get6, M_put6, M_ref7, M_kd7, M_ln7, M_get7, M_put7, M_ref8, M_kd8, M_ln8, M_get8, M_put8, M_ref9, M_kd9, M_ln9, M_get9, M_put9, M_ref10, M_kd10, M_ln10, M_get10, M_put10, M_ref11, M_kd11, M_ln11, M_get11, M_put11, M_ref12, M_kd12, M_ln12, M_get12, M_put12, M_ref13, M_kd13, M_ln13, M_get13, M_put13, M_ref14, M_kd14, M_ln14, M_get14, M_put14, M_p526, M_g526, M_p527, M_g527, M_p529, M_g529, M_p530, M_g530, M_p531, M_g531, M_p532, M_g532, M_p533, M_g533, M_p534, M_g534, M_p535, M_g535, M_p536, M_g536, M_p537, M_g537, M_p542, M_g542, M_p545, M_g545, M_p546, M_g546, M_p547, M_g547, M_p548, M_g548, M_p550, M_g550, M_hz, M_hs, jL_mul, jL_add, jL_sub, jL_div, jL_rem, jL_of32, jI_of64, jI_add, jI_sub, jI_mul, jI_div, jI_rem, jI_neg, jI_eq, jI_lt, jI_le, jI_eq0, jI_lt0, jI_0lt, jI_le0, jI_0le, forall_eq, true_and, and_true, or_true, true_or, or_false, false_or, and_false, false_and, not_true_eq_false, not_false_eq_true, false_implies, true_implies, implies_true, Int.reduceEq, Int.reduceLT, Int.reduceLE, Int.reduceAdd, Int.reduceSub, Int.reduceMul, Int.reduceNeg, Int.reduceNe, Nat.reduceEqDiff, Nat.reduceAdd, Int.cast_ofNat_Int, ne_eq, ↓reduceIte, sr_eq, sr_sr, sr_ne, up_up, vp_jI]
  refine m_isOver (by omega) hb (fun q => ⟨_, rfl, ?_⟩) (fun q => ⟨_, rfl, ?_⟩)
  all_goals replace q : _ := q
  · simp (disch := omega) only [M_kd, M_ref1, M_kd1, M_ln1, M_get1, M_put1, M_ref2, M_kd2, M_ln2, M_get2, M_put2, M_ref3, M_kd3, M_ln3, M_get3, M_put3, M_ref4, M_kd4, M_ln4, M_get4, M_put4, M_ref5, M_kd5, M_ln5, M_get5, M_put5, M_ref6, M_kd6, M_ln6, M_get6, M_put6, M_ref7, M_kd7, M_ln7, M_get7, M_put7, M_ref8, M_kd8, M_ln8, M_get8, M_put8, M_ref9, M_kd9, M_ln9, M_get9, M_put9, M_ref10, M_kd10, M_ln10, M_get10, M_put10, M_ref11, M_kd11, M_ln11, M_get11, M_put11, M_ref12, M_kd12, M_ln12, M_get12, M_put12, M_ref13, M_kd13, M_ln13, M_get13, M_put13, M_ref14, M_kd14, M_ln14, M_get14, M_put14, M_p526, M_g526, M_p527, M_g527, M_p529, M_g529, M_p530, M_g530, M_p531, M_g531, M_p532, M_g532, M_p533, M_g533, M_p534, M_g534, M_p535, M_g535, M_p536, M_g536, M_p537, M_g537, M_p542, M_g542, M_p545, M_g545, M_p546, M_g546, M_p547, M_g547, M_p548, M_g548, M_p550, M_g550, M_hz, M_hs, jL_mul, jL_add, jL_sub, jL_div, jL_rem, jL_of32, jI_of64, jI_add, jI_sub, jI_mul, jI_div, jI_rem, jI_neg, jI_eq, jI_lt, jI_le, jI_eq0, jI_lt0, jI_0lt, jI_le0, jI_0le, forall_eq, true_and, and_true, or_true, true_or, or_false, false_or, and_false, false_and, not_true_eq_false, not_false_eq_true, false_implies, true_implies, implies_true, Int.reduceEq, Int.reduceLT, Int.reduceLE, Int.reduceAdd, Int.reduceSub, Int.reduceMul, Int.reduceNeg, Int.reduceNe, Nat.reduceEqDiff, Nat.reduceAdd, Int.cast_ofNat_Int, ne_eq, ↓reduceIte, sr_eq, sr_sr, sr_ne, up_up, vp_jI]
    rw [sr_ne (by omega)] at q
    refine m_score (by omega) ⟨_, rfl, ?_⟩
    rw [sr_ne (by omega)]
    have h1 : valN (S 1) = scoreR (S 1) := ifP_f q
    have h2 : posN (S 1) = 1 := ifP_f q
    rw [← h1]
    exact hp _ _ hf1 (fun _ => by rw [h2, sr_eq, up_eq])
  · simp (disch := omega) only [M_kd, M_ref1, M_kd1, M_ln1, M_get1, M_put1, M_ref2, M_kd2, M_ln2, M_get2, M_put2, M_ref3, M_kd3, M_ln3, M_get3, M_put3, M_ref4, M_kd4, M_ln4, M_get4, M_put4, M_ref5, M_kd5, M_ln5, M_get5, M_put5, M_ref6, M_kd6, M_ln6, M_get6, M_put6, M_ref7, M_kd7, M_ln7, M_get7, M_put7, M_ref8, M_kd8, M_ln8, M_get8, M_put8, M_ref9, M_kd9, M_ln9, M_get9, M_put9, M_ref10, M_kd10, M_ln10, M_get10, M_put10, M_ref11, M_kd11, M_ln11, M_get11, M_put11, M_ref12, M_kd12, M_ln12, M_get12, M_put12, M_ref13, M_kd13, M_ln13, M_get13, M_put13, M_ref14, M_kd14, M_ln14, M_get14, M_put14, M_p526, M_g526, M_p527, M_g527, M_p529, M_g529, M_p530, M_g530, M_p531, M_g531, M_p532, M_g532, M_p533, M_g533, M_p534, M_g534, M_p535, M_g535, M_p536, M_g536, M_p537, M_g537, M_p542, M_g542, M_p545, M_g545, M_p546, M_g546, M_p547, M_g547, M_p548, M_g548, M_p550, M_g550, M_hz, M_hs, jL_mul, jL_add, jL_sub, jL_div, jL_rem, jL_of32, jI_of64, jI_add, jI_sub, jI_mul, jI_div, jI_rem, jI_neg, jI_eq, jI_lt, jI_le, jI_eq0, jI_lt0, jI_0lt, jI_le0, jI_0le, forall_eq, true_and, and_true, or_true, true_or, or_false, false_or, and_false, false_and, not_true_eq_false, not_false_eq_true, false_implies, true_implies, implies_true, Int.reduceEq, Int.reduceLT, Int.reduceLE, Int.reduceAdd, Int.reduceSub, Int.reduceMul, Int.reduceNeg, Int.reduceNe, Nat.reduceEqDiff, Nat.reduceAdd, Int.cast_ofNat_Int, ne_eq, ↓reduceIte, sr_eq, sr_sr, sr_ne, up_up, vp_jI]
    rw [sr_ne (by omega)] at q
    have h1 : valN (S 1) = valF (S 1) (prP (S 1)) := ifP_t q
    have h2 : posN (S 1) = posF (S 1) (prP (S 1)) := ifP_t q
    have hr2 := r2_of hr q
    refine m_makesPresent (S := sr S 0 (up (S 0) 542 1)) (by omega) (by rw [sr_ne (by omega)]; exact hr) (fun S2 L2 hm he => ⟨rfl, M_kd, ?_⟩)
    rw [sr_ne (by omega)] at he
    have e2 : S2 1 = S 1 := (hm.1.2 1 (by omega) (by omega) (by omega) (by omega)).trans (sr_ne (by omega))
    refine m_searches (S := S2) (L := L2) (by omega) (by rw [e2]; exact RX_of hr hr2) (by rw [e2, he]; exact VP_pr hr hr2) (fun S3 L3 a1 a2 => ⟨_, rfl, ?_⟩)
    rw [e2, he] at a2 ⊢
    rw [← h1] at a2 ⊢
    rw [← h2] at a2
    exact hp S3 L3 (hf1.trans (hm.1.trans a1)) a2
theorem m_value (hd : 19 ≤ d) (hr : GI (S 1)) (hp : ∀ S' L', XF (sr S 0 (up (S 0) 527 0)) S' → post (some (.int (jI (valN (S 1))))) (MH h0 m S' L')) : D G l d mX7_value [vR m] (MH h0 m S L) post xp := by
  refine t_X7_value (by omega) ?_
  simp (disch := omega) only [M_kd, M_ref1, M_kd1, M_ln1, M_get1, M_put1, M_ref2, M_kd2, M_ln2, M_get2, M_put2, M_ref3, M_kd3, M_ln3, M_get3, M_put3, M_ref4, M_kd4, M_ln4, M_get4, M_put4, M_ref5, M_kd5, M_ln5, M_get5, M_put5, M_ref6, M_kd6, M_ln6, M_get6, M_put6, M_ref7, M_kd7, M_ln7, M_get7, M_put7, M_ref8, M_kd8, M_ln8, M_get8, M_put8, M_ref9, M_kd9, M_ln9, M_get9, M_put9, M_ref10, M_kd10, M_ln10, M_get10, M_put10, M_ref11, M_kd11, M_ln11, M_get11, M_put11, M_ref12, M_kd12, M_ln12, M_get12, M_put12, M_ref13, M_kd13, M_ln13, M_get13, M_put13, M_ref14, M_kd14, M_ln14, M_get14, M_put14, M_p526, M_g526, M_p527, M_g527, M_p529, M_g529, M_p530, M_g530, M_p531, M_g531, M_p532, M_g532, M_p533, M_g533, M_p534, M_g534, M_p535, M_g535, M_p536, M_g536, M_p537, M_g537, M_p542, M_g542, M_p545, M_g545, M_p546, M_g546, M_p547, M_g547, M_p548, M_g548, M_p550, M_g550, M_hz, M_hs, jL_mul, jL_add, jL_sub, jL_div, jL_rem, jL_of32, jI_of64, jI_add, jI_sub, jI_mul, jI_div, jI_rem, jI_neg, jI_eq, jI_lt, jI_le, jI_eq0, jI_lt0, jI_0lt, jI_le0, jI_0le, forall_eq, true_and, and_true, or_true, true_or, or_false, false_or, and_false, false_and, not_true_eq_false, not_false_eq_true, false_implies, true_implies, implies_true, Int.reduceEq, Int.reduceLT, Int.reduceLE, Int.reduceAdd, Int.reduceSub, Int.reduceMul, Int.reduceNeg, Int.reduceNe, Nat.reduceEqDiff, Nat.reduceAdd, Int.cast_ofNat_Int, ne_eq, ↓reduceIte, sr_eq, sr_sr, sr_ne, up_up, vp_jI]
  refine m_valueNow (S := (sr S 0 (up (S 0) 527 0))) (by omega) (by rw [sr_ne (by omega)]; exact hr) (fun S2 L2 a1 a2 => ⟨_, rfl, ?_⟩)
  rw [sr_ne (by omega)]
  exact hp S2 L2 a1
theorem score_nn {r : Row} (h : GI r) : 0 ≤ scoreR r ∧ scoreR r ≤ 20 := by
  have h1 := h.1.1.2.1
  have hp := h.1.2.1
  unfold scoreR
  refine ⟨su_nonneg fun c a b => (hp c a b).1, ?_⟩
  have := su_lec (lo := 0) (hi := 4) (c := 5) (f := fun c => r (14 + c)) (by omega) (fun c a b => by have := hp c a b; omega)
  omega
theorem valF_bd {r : Row} (hr : RX r) {p : Pos} (hp : VP r p) : (valF r p = -8 ∧ posF r p = -8) ∨ (0 ≤ valF r p ∧ valF r p ≤ 20 ∧ 1 ≤ posF r p ∧ posF r p ≤ 4000) := by
  by_cases h : ∃ v n, FinP r p n v ∧ n ≤ 4000
  · obtain ⟨v, n, hf, hn⟩ := h
    obtain ⟨w1, w2⟩ := val_fin hf hn
    right
    obtain ⟨Q, q1, q2, q3, i, i1, i2, i3⟩ := hf
    have hq : VP r (Q i) := q1.2.2.1 i i1 i2 (VP r) hp (fun x y hx hs => VP_step hr hx hs)
    have := score_bd hr hq
    rw [w1, w2]
    exact ⟨by omega, by omega, q1.1, hn⟩
  · left
    unfold valF posF
    rw [dif_neg h, dif_neg (fun ⟨n, v, a⟩ => h ⟨v, n, a⟩)]
    exact ⟨rfl, rfl⟩
theorem valN_bd {r : Row} (h : GI r) : (valN r = -8 ∧ posN r = -8) ∨ (0 ≤ valN r ∧ valN r ≤ 20 ∧ 1 ≤ posN r ∧ posN r ≤ 4000) := by
  unfold valN posN
  by_cases q : r 12 = 0
  · rw [ifP_t q, ifP_t q]
    have h2 := r2_of h q
    exact valF_bd (RX_of h h2) (VP_pr h h2)
  · rw [ifP_f q, ifP_f q]
    have := score_nn h
    exact Or.inr ⟨by omega, by omega, by omega, by omega⟩
theorem m_positions (hd : 19 ≤ d) (hr : GI (S 1)) (hp : ∀ S' L', XF (sr S 0 (up (S 0) 527 0)) S' → post (some (.int (jI (posN (S 1))))) (MH h0 m S' L')) : D G l d mX7_positions [vR m] (MH h0 m S L) post xp := by
  have hb := valN_bd hr
  refine t_X7_positions (by omega) ?_
  simp (disch := omega) only [M_kd, M_ref1, M_kd1, M_ln1, M_get1, M_put1, M_ref2, M_kd2, M_ln2, M_get2, M_put2, M_ref3, M_kd3, M_ln3, M_get3, M_put3, M_ref4, M_kd4, M_ln4, M_get4, M_put4, M_ref5, M_kd5, M_ln5, M_get5, M_put5, M_ref6, M_kd6, M_ln6, M_get6, M_put6, M_ref7, M_kd7, M_ln7, M_get7, M_put7, M_ref8, M_kd8, M_ln8, M_get8, M_put8, M_ref9, M_kd9, M_ln9, M_get9, M_put9, M_ref10, M_kd10, M_ln10, M_get10, M_put10, M_ref11, M_kd11, M_ln11, M_get11, M_put11, M_ref12, M_kd12, M_ln12, M_get12, M_put12, M_ref13, M_kd13, M_ln13, M_get13, M_put13, M_ref14, M_kd14, M_ln14, M_get14, M_put14, M_p526, M_g526, M_p527, M_g527, M_p529, M_g529, M_p530, M_g530, M_p531, M_g531, M_p532, M_g532, M_p533, M_g533, M_p534, M_g534, M_p535, M_g535, M_p536, M_g536, M_p537, M_g537, M_p542, M_g542, M_p545, M_g545, M_p546, M_g546, M_p547, M_g547, M_p548, M_g548, M_p550, M_g550, M_hz, M_hs, jL_mul, jL_add, jL_sub, jL_div, jL_rem, jL_of32, jI_of64, jI_add, jI_sub, jI_mul, jI_div, jI_rem, jI_neg, jI_eq, jI_lt, jI_le, jI_eq0, jI_lt0, jI_0lt, jI_le0, jI_0le, forall_eq, true_and, and_true, or_true, true_or, or_false, false_or, and_false, false_and, not_true_eq_false, not_false_eq_true, false_implies, true_implies, implies_true, Int.reduceEq, Int.reduceLT, Int.reduceLE, Int.reduceAdd, Int.reduceSub, Int.reduceMul, Int.reduceNeg, Int.reduceNe, Nat.reduceEqDiff, Nat.reduceAdd, Int.cast_ofNat_Int, ne_eq, ↓reduceIte, sr_eq, sr_sr, sr_ne, up_up, vp_jI]
  refine m_valueNow (S := (sr S 0 (up (S 0) 527 0))) (by omega) (by rw [sr_ne (by omega)]; exact hr) (fun S2 L2 a1 a2 => ⟨_, rfl, ?_⟩)
  rw [sr_ne (by omega)] at a2 ⊢
  generalize hv : valN (S 1) = v at *
  simp (disch := omega) only [M_kd, M_ref1, M_kd1, M_ln1, M_get1, M_put1, M_ref2, M_kd2, M_ln2, M_get2, M_put2, M_ref3, M_kd3, M_ln3, M_get3, M_put3, M_ref4, M_kd4, M_ln4, M_get4, M_put4, M_ref5, M_kd5, M_ln5, M_get5, M_put5, M_ref6, M_kd6, M_ln6, M_get6, M_put6, M_ref7, M_kd7, M_ln7, M_get7, M_put7, M_ref8, M_kd8, M_ln8, M_get8, M_put8, M_ref9, M_kd9, M_ln9, M_get9, M_put9, M_ref10, M_kd10, M_ln10, M_get10, M_put10, M_ref11, M_kd11, M_ln11, M_get11, M_put11, M_ref12, M_kd12, M_ln12, M_get12, M_put12, M_ref13, M_kd13, M_ln13, M_get13, M_put13, M_ref14, M_kd14, M_ln14, M_get14, M_put14, M_p526, M_g526, M_p527, M_g527, M_p529, M_g529, M_p530, M_g530, M_p531, M_g531, M_p532, M_g532, M_p533, M_g533, M_p534, M_g534, M_p535, M_g535, M_p536, M_g536, M_p537, M_g537, M_p542, M_g542, M_p545, M_g545, M_p546, M_g546, M_p547, M_g547, M_p548, M_g548, M_p550, M_g550, M_hz, M_hs, jL_mul, jL_add, jL_sub, jL_div, jL_rem, jL_of32, jI_of64, jI_add, jI_sub, jI_mul, jI_div, jI_rem, jI_neg, jI_eq, jI_lt, jI_le, jI_eq0, jI_lt0, jI_0lt, jI_le0, jI_0le, forall_eq, true_and, and_true, or_true, true_or, or_false, false_or, and_false, false_and, not_true_eq_false, not_false_eq_true, false_implies, true_implies, implies_true, Int.reduceEq, Int.reduceLT, Int.reduceLE, Int.reduceAdd, Int.reduceSub, Int.reduceMul, Int.reduceNeg, Int.reduceNe, Nat.reduceEqDiff, Nat.reduceAdd, Int.cast_ofNat_Int, ne_eq, ↓reduceIte, sr_eq, sr_sr, sr_ne, up_up, vp_jI]
  refine ⟨fun q => ?_, fun q => ?_⟩
  · rw [a2 q]; exact hp S2 L2 a1
  · have := hp S2 L2 a1
    rw [show posN (S 1) = -8 by omega] at this
    exact this
/-! the value behind a move -/
noncomputable def cdR (r : Row) (k : Int) : Int := ifP (0 ≤ k ∧ k < r (187 + r 10)) (r (191 + 5 * r 10 + k)) (-1)
def senR (r : Row) (kind k : Int) : Prop := (kind = 0 ∧ (0 ≤ k ∧ k < r (187 + r 10)) ∧ playC r (prP r) (r (191 + 5 * r 10 + k))) ∨ (kind = 1 ∧ (0 ≤ k ∧ k < r (187 + r 10))) ∨ (kind = 2 ∧ 0 < r 7) ∨ (kind = 3 ∧ r (187 + r 10) = 0)
noncomputable def vwR (r : Row) (kind k : Int) : Int := ifP (senR r kind k) (valF r (mvP r kind (cdR r k) (prP r))) (-7)
theorem pr_H {r : Row} (h : GI r) : pH (prP r) (r 10) = handF r (r 10) (r (187 + r 10)).toNat := mk_H ⟨h.2.1.1, h.2.1.2.1⟩
theorem hand_card {r : Row} (h : GI r) {k : Int} (a : 0 ≤ k) (b : k < r (187 + r 10)) : (0 ≤ r (191 + 5 * r 10 + k) ∧ r (191 + 5 * r 10 + k) < r 4) ∧ hasC (pH (prP r) (pU (prP r))) (r (191 + 5 * r 10 + k)) := by
  obtain ⟨h10, h10b, -⟩ := h.2.1
  obtain ⟨hcb, -, -, -, -, -, -, hsz, hhd, hhk, -⟩ := h.1
  have hs := hsz (r 10) h10 h10b
  have h1 := hhd (r 10) k h10 h10b a (by omega)
  have h2 := (hhk (r 10) k h10 h10b a b).1
  refine ⟨by omega, ?_⟩
  show hasC (pH (prP r) (r 10)) _
  rw [pr_H h]
  exact (hand_has (fun j c e => hhd (r 10) j h10 h10b c (by omega)) (by omega)).mpr ⟨k, a, by omega, rfl⟩
theorem sen_ok {r : Row} (h : GI r) {kind k : Int} (hs : senR r kind k) : okP r kind (cdR r k) (prP r) := by
  rcases hs with ⟨rfl, a, b⟩ | ⟨rfl, a⟩ | ⟨rfl, a⟩ | ⟨rfl, a⟩
  · have hc := hand_card h a.1 a.2
    unfold cdR
    rw [ifP_t a]
    exact Or.inl ⟨rfl, hc.1, hc.2, b⟩
  · have hc := hand_card h a.1 a.2
    unfold cdR
    rw [ifP_t a]
    exact Or.inr (Or.inl ⟨rfl, hc.1, hc.2⟩)
  · exact Or.inr (Or.inr (Or.inl ⟨rfl, a⟩))
  · exact Or.inr (Or.inr (Or.inr rfl))
theorem left_of {r : Row} (h : GI r) (h12 : r 12 = 0) : pL (prP r) ≠ 0 := by
  have h2 := r2_of h h12
  have h3 := h.2.2.2.2.2.2.1
  rw [if_neg (by omega), h12] at h3
  intro q
  have q9 : r 9 = 0 := q
  unfold overR ifP at h3
  rw [if_pos q9] at h3
  split at h3
  · omega
  · split at h3 <;> omega
theorem m_valueWith (hd : 19 ≤ d) (hr : GI (S 1)) (h12 : S 1 12 = 0) {kind k : Int} (hk : 0 ≤ kind ∧ kind ≤ 3) (hkk : -2147483648 ≤ k ∧ k < 2147483648) (hp : ∀ S' L', XF S S' → post (some (.int (jI (vwR (S 1) kind k)))) (MH h0 m S' L')) : D G l d mX7_valueWith [vR m, vI (jI kind), vI (jI k)] (MH h0 m S L) post xp := by
  have h2 := r2_of hr h12
  have hR := RX_of hr h2
  have hV := VP_pr hr h2
  have hL := left_of hr h12
  obtain ⟨h10, h10b, -⟩ := id hr.2.1
  have hsz := hr.1.2.2.2.2.2.2.2.1 (S 1 10) h10 h10b
  have h7 := hr.2.2.2.1
  have h6 := hr.2.2.1
  refine t_X7_valueWith (by omega) ?_
  simp (disch := omega) only [M_kd, M_ref1, M_kd1, M_ln1, M_get1, M_put1, M_ref2, M_kd2, M_ln2, M_get2, M_put2, M_ref3, M_kd3, M_ln3, M_get3, M_put3, M_ref4, M_kd4, M_ln4, M_get4, M_put4, M_ref5, M_kd5, M_ln5, M_get5, M_put5, M_ref6, M_kd6, M_ln6, M_get6, M_put6, M_ref7, M_kd7, M_ln7, M_get7, M_put7, M_ref8, M_kd8, M_ln8, M_get8, M_put8, M_ref9, M_kd9, M_ln9, M_get9, M_put9, M_ref10, M_kd10, M_ln10, M_get10, M_put10, M_ref11, M_kd11, M_ln11, M_get11, M_put11, M_ref12, M_kd12, M_ln12, M_get12, M_put12, M_ref13, M_kd13, M_ln13, M_get13, M_put13, M_ref14, M_kd14, M_ln14, M_get14, M_put14, M_p526, M_g526, M_p527, M_g527, M_p529, M_g529, M_p530, M_g530, M_p531, M_g531, M_p532, M_g532, M_p533, M_g533, M_p534, M_g534, M_p535, M_g535, M_p536, M_g536, M_p537, M_g537, M_p542, M_g542, M_p545, M_g545, M_p546, M_g546, M_p547, M_g547, M_p548, M_g548, M_p550, M_g550, M_hz, M_hs, jL_mul, jL_add, jL_sub, jL_div, jL_rem, jL_of32, jI_of64, jI_add, jI_sub, jI_mul, jI_div, jI_rem, jI_neg, jI_eq, jI_lt, jI_le, jI_eq0, jI_lt0, jI_0lt, jI_le0, jI_0le, forall_eq, true_and, and_true, or_true, true_or, or_false, false_or, and_false, false_and, not_true_eq_false, not_false_eq_true, false_implies, true_implies, implies_true, Int.reduceEq, Int.reduceLT, Int.reduceLE, Int.reduceAdd, Int.reduceSub, Int.reduceMul, Int.reduceNeg, Int.reduceNe, Nat.reduceEqDiff, Nat.reduceAdd, Int.cast_ofNat_Int, ne_eq, ↓reduceIte, sr_eq, sr_sr, sr_ne, up_up, vp_jI]
  refine m_makesPresent (by omega) hr (fun S1 L1 hm he => ⟨rfl, ?_⟩)
  have e1 : S1 1 = S 1 := hm.1.2 1 (by omega) (by omega) (by omega) (by omega)
  have hU : S1 0 547 = S 1 10 := by
    have : pU (mdP S1 L1) = pU (prP (S 1)) := by rw [he]
    exact this
  have hT : S1 0 545 = S 1 7 := by
    have : pT (mdP S1 L1) = pT (prP (S 1)) := by rw [he]
    exact this
  have go : ∀ c : Int, senR (S 1) kind k → (c = cdR (S 1) k ∨ 2 ≤ kind) → D G l (d - 1) mX7_moves [vR m, vI (jI kind), vI (jI c)] (MH h0 m S1 L1) (fun v h3 => v = none ∧ ((kd h3 m = 14) ∧ D G l (d - 1) mX7_searches [vR m] h3 (fun v h4 => ∃ ri4, v = some (.int ri4) ∧ (post (some (.int ri4)) h4)) xp)) xp := by
    intro c hs hcc
    have ho : okP (S 1) kind c (prP (S 1)) := by
      rcases hcc with q | q
      · rw [q]; exact sen_ok hr hs
      · rcases hs with ⟨g, -⟩ | ⟨g, -⟩ | ⟨g, a⟩ | ⟨g, a⟩
        · omega
        · omega
        · exact Or.inr (Or.inr (Or.inl ⟨g, a⟩))
        · exact Or.inr (Or.inr (Or.inr g))
    have hmv : mvP (S 1) kind c (prP (S 1)) = mvP (S 1) kind (cdR (S 1) k) (prP (S 1)) := by
      rcases hcc with q | q
      · rw [q]
      · exact mv_c q
    have hvw : vwR (S 1) kind k = valF (S 1) (mvP (S 1) kind c (prP (S 1))) := by rw [hmv]; exact ifP_t hs
    refine m_moves (S := S1) (L := L1) (by omega) (by rw [e1]; exact hR) (by rw [e1, he]; exact hV) (kind := kind) (c := c) (by rw [e1, he]; exact ho) (by rw [he]; exact hL) (fun S2 L2 hm2 he2 => ⟨rfl, M_kd, ?_⟩)
    rw [e1, he] at he2
    have e2 : S2 1 = S 1 := (hm2.1.2 1 (by omega) (by omega) (by omega) (by omega)).trans e1
    refine m_searches (S := S2) (L := L2) (by omega) (by rw [e2]; exact hR) (by rw [e2, he2]; exact mv_ok hR hV ho hL) (fun S3 L3 a1 a2 => ⟨_, rfl, ?_⟩)
    rw [e2, he2, ← hvw]
    exact hp S3 L3 (hm.1.trans (hm2.1.trans a1))
  have bad : ¬ senR (S 1) kind k → post (some (.int (jI (-7)))) (MH h0 m S1 L1) := fun q => by
    have := hp S1 L1 hm.1
    rw [show vwR (S 1) kind k = -7 from ifP_f q] at this
    exact this
  simp (disch := omega) only [M_kd, M_ref1, M_kd1, M_ln1, M_get1, M_put1, M_ref2, M_kd2, M_ln2, M_get2, M_put2, M_ref3, M_kd3, M_ln3, M_get3, M_put3, M_ref4, M_kd4, M_ln4, M_get4, M_put4, M_ref5, M_kd5, M_ln5, M_get5, M_put5, M_ref6, M_kd6, M_ln6, M_get6, M_put6, M_ref7, M_kd7, M_ln7, M_get7, M_put7, M_ref8, M_kd8, M_ln8, M_get8, M_put8, M_ref9, M_kd9, M_ln9, M_get9, M_put9, M_ref10, M_kd10, M_ln10, M_get10, M_put10, M_ref11, M_kd11, M_ln11, M_get11, M_put11, M_ref12, M_kd12, M_ln12, M_get12, M_put12, M_ref13, M_kd13, M_ln13, M_get13, M_put13, M_ref14, M_kd14, M_ln14, M_get14, M_put14, M_p526, M_g526, M_p527, M_g527, M_p529, M_g529, M_p530, M_g530, M_p531, M_g531, M_p532, M_g532, M_p533, M_g533, M_p534, M_g534, M_p535, M_g535, M_p536, M_g536, M_p537, M_g537, M_p542, M_g542, M_p545, M_g545, M_p546, M_g546, M_p547, M_g547, M_p548, M_g548, M_p550, M_g550, M_hz, M_hs, jL_mul, jL_add, jL_sub, jL_div, jL_rem, jL_of32, jI_of64, jI_add, jI_sub, jI_mul, jI_div, jI_rem, jI_neg, jI_eq, jI_lt, jI_le, jI_eq0, jI_lt0, jI_0lt, jI_le0, jI_0le, forall_eq, true_and, and_true, or_true, true_or, or_false, false_or, and_false, false_and, not_true_eq_false, not_false_eq_true, false_implies, true_implies, implies_true, Int.reduceEq, Int.reduceLT, Int.reduceLE, Int.reduceAdd, Int.reduceSub, Int.reduceMul, Int.reduceNeg, Int.reduceNe, Nat.reduceEqDiff, Nat.reduceAdd, Int.cast_ofNat_Int, ne_eq, ↓reduceIte, sr_eq, sr_sr, sr_ne, up_up, vp_jI, e1, hU, hT]
  by_cases hh : 0 ≤ k ∧ k < S 1 (187 + S 1 10)
  · have hcd : cdR (S 1) k = S 1 (191 + 5 * S 1 10 + k) := ifP_t hh
    have hcb := hand_card hr hh.1 hh.2
    refine m_in (by omega) hkk (by omega) (by omega) (fun q => ⟨_, rfl, ?_⟩) (fun q => absurd ⟨hh.1, by omega⟩ q)
    simp (disch := omega) only [M_kd, M_ref1, M_kd1, M_ln1, M_get1, M_put1, M_ref2, M_kd2, M_ln2, M_get2, M_put2, M_ref3, M_kd3, M_ln3, M_get3, M_put3, M_ref4, M_kd4, M_ln4, M_get4, M_put4, M_ref5, M_kd5, M_ln5, M_get5, M_put5, M_ref6, M_kd6, M_ln6, M_get6, M_put6, M_ref7, M_kd7, M_ln7, M_get7, M_put7, M_ref8, M_kd8, M_ln8, M_get8, M_put8, M_ref9, M_kd9, M_ln9, M_get9, M_put9, M_ref10, M_kd10, M_ln10, M_get10, M_put10, M_ref11, M_kd11, M_ln11, M_get11, M_put11, M_ref12, M_kd12, M_ln12, M_get12, M_put12, M_ref13, M_kd13, M_ln13, M_get13, M_put13, M_ref14, M_kd14, M_ln14, M_get14, M_put14, M_p526, M_g526, M_p527, M_g527, M_p529, M_g529, M_p530, M_g530, M_p531, M_g531, M_p532, M_g532, M_p533, M_g533, M_p534, M_g534, M_p535, M_g535, M_p536, M_g536, M_p537, M_g537, M_p542, M_g542, M_p545, M_g545, M_p546, M_g546, M_p547, M_g547, M_p548, M_g548, M_p550, M_g550, M_hz, M_hs, jL_mul, jL_add, jL_sub, jL_div, jL_rem, jL_of32, jI_of64, jI_add, jI_sub, jI_mul, jI_div, jI_rem, jI_neg, jI_eq, jI_lt, jI_le, jI_eq0, jI_lt0, jI_0lt, jI_le0, jI_0le, forall_eq, true_and, and_true, or_true, true_or, or_false, false_or, and_false, false_and, not_true_eq_false, not_false_eq_true, false_implies, true_implies, implies_true, Int.reduceEq, Int.reduceLT, Int.reduceLE, Int.reduceAdd, Int.reduceSub, Int.reduceMul, Int.reduceNeg, Int.reduceNe, Nat.reduceEqDiff, Nat.reduceAdd, Int.cast_ofNat_Int, ne_eq, ↓reduceIte, sr_eq, sr_sr, sr_ne, up_up, vp_jI]
    refine m_held (by omega) (by rw [hU]; exact ⟨h10, h10b⟩) (by omega) ⟨_, rfl, ?_⟩
    rw [hU, e1]
    have hk4 : kind = 0 ∨ kind = 1 ∨ kind = 2 ∨ kind = 3 := by omega
    rcases hk4 with rfl | rfl | rfl | rfl
    · simp (disch := omega) only [M_kd, M_ref1, M_kd1, M_ln1, M_get1, M_put1, M_ref2, M_kd2, M_ln2, M_get2, M_put2, M_ref3, M_kd3, M_ln3, M_get3, M_put3, M_ref4, M_kd4, M_ln4, M_get4, M_put4, M_ref5, M_kd5, M_ln5, M_get5, M_put5, M_ref6, M_kd6, M_ln6, M_get6, M_put6, M_ref7, M_kd7, M_ln7, M_get7, M_put7, M_ref8, M_kd8, M_ln8, M_get8, M_put8, M_ref9, M_kd9, M_ln9, M_get9, M_put9, M_ref10, M_kd10, M_ln10, M_get10, M_put10, M_ref11, M_kd11, M_ln11, M_get11, M_put11, M_ref12, M_kd12, M_ln12, M_get12, M_put12, M_ref13, M_kd13, M_ln13, M_get13, M_put13, M_ref14, M_kd14, M_ln14, M_get14, M_put14, M_p526, M_g526, M_p527, M_g527, M_p529, M_g529, M_p530, M_g530, M_p531, M_g531, M_p532, M_g532, M_p533, M_g533, M_p534, M_g534, M_p535, M_g535, M_p536, M_g536, M_p537, M_g537, M_p542, M_g542, M_p545, M_g545, M_p546, M_g546, M_p547, M_g547, M_p548, M_g548, M_p550, M_g550, M_hz, M_hs, jL_mul, jL_add, jL_sub, jL_div, jL_rem, jL_of32, jI_of64, jI_add, jI_sub, jI_mul, jI_div, jI_rem, jI_neg, jI_eq, jI_lt, jI_le, jI_eq0, jI_lt0, jI_0lt, jI_le0, jI_0le, forall_eq, true_and, and_true, or_true, true_or, or_false, false_or, and_false, false_and, not_true_eq_false, not_false_eq_true, false_implies, true_implies, implies_true, Int.reduceEq, Int.reduceLT, Int.reduceLE, Int.reduceAdd, Int.reduceSub, Int.reduceMul, Int.reduceNeg, Int.reduceNe, Nat.reduceEqDiff, Nat.reduceAdd, Int.cast_ofNat_Int, ne_eq, ↓reduceIte, sr_eq, sr_sr, sr_ne, up_up, vp_jI]
      refine m_canPlay (S := S1) (L := L1) (by omega) (by rw [e1]; exact hR) (by rw [e1, he]; exact hV) (c := S 1 (191 + 5 * S 1 10 + k)) (by rw [e1]; exact hcb.1) (fun w => ⟨_, rfl, ?_⟩) (fun w => ⟨_, rfl, ?_⟩)
      · rw [e1, he] at w
        simp (disch := omega) only [M_kd, M_ref1, M_kd1, M_ln1, M_get1, M_put1, M_ref2, M_kd2, M_ln2, M_get2, M_put2, M_ref3, M_kd3, M_ln3, M_get3, M_put3, M_ref4, M_kd4, M_ln4, M_get4, M_put4, M_ref5, M_kd5, M_ln5, M_get5, M_put5, M_ref6, M_kd6, M_ln6, M_get6, M_put6, M_ref7, M_kd7, M_ln7, M_get7, M_put7, M_ref8, M_kd8, M_ln8, M_get8, M_put8, M_ref9, M_kd9, M_ln9, M_get9, M_put9, M_ref10, M_kd10, M_ln10, M_get10, M_put10, M_ref11, M_kd11, M_ln11, M_get11, M_put11, M_ref12, M_kd12, M_ln12, M_get12, M_put12, M_ref13, M_kd13, M_ln13, M_get13, M_put13, M_ref14, M_kd14, M_ln14, M_get14, M_put14, M_p526, M_g526, M_p527, M_g527, M_p529, M_g529, M_p530, M_g530, M_p531, M_g531, M_p532, M_g532, M_p533, M_g533, M_p534, M_g534, M_p535, M_g535, M_p536, M_g536, M_p537, M_g537, M_p542, M_g542, M_p545, M_g545, M_p546, M_g546, M_p547, M_g547, M_p548, M_g548, M_p550, M_g550, M_hz, M_hs, jL_mul, jL_add, jL_sub, jL_div, jL_rem, jL_of32, jI_of64, jI_add, jI_sub, jI_mul, jI_div, jI_rem, jI_neg, jI_eq, jI_lt, jI_le, jI_eq0, jI_lt0, jI_0lt, jI_le0, jI_0le, forall_eq, true_and, and_true, or_true, true_or, or_false, false_or, and_false, false_and, not_true_eq_false, not_false_eq_true, false_implies, true_implies, implies_true, Int.reduceEq, Int.reduceLT, Int.reduceLE, Int.reduceAdd, Int.reduceSub, Int.reduceMul, Int.reduceNeg, Int.reduceNe, Nat.reduceEqDiff, Nat.reduceAdd, Int.cast_ofNat_Int, ne_eq, ↓reduceIte, sr_eq, sr_sr, sr_ne, up_up, vp_jI]
        exact go _ (Or.inl ⟨rfl, hh, w⟩) (Or.inl hcd.symm)
      · rw [e1, he] at w
        simp (disch := omega) only [M_kd, M_ref1, M_kd1, M_ln1, M_get1, M_put1, M_ref2, M_kd2, M_ln2, M_get2, M_put2, M_ref3, M_kd3, M_ln3, M_get3, M_put3, M_ref4, M_kd4, M_ln4, M_get4, M_put4, M_ref5, M_kd5, M_ln5, M_get5, M_put5, M_ref6, M_kd6, M_ln6, M_get6, M_put6, M_ref7, M_kd7, M_ln7, M_get7, M_put7, M_ref8, M_kd8, M_ln8, M_get8, M_put8, M_ref9, M_kd9, M_ln9, M_get9, M_put9, M_ref10, M_kd10, M_ln10, M_get10, M_put10, M_ref11, M_kd11, M_ln11, M_get11, M_put11, M_ref12, M_kd12, M_ln12, M_get12, M_put12, M_ref13, M_kd13, M_ln13, M_get13, M_put13, M_ref14, M_kd14, M_ln14, M_get14, M_put14, M_p526, M_g526, M_p527, M_g527, M_p529, M_g529, M_p530, M_g530, M_p531, M_g531, M_p532, M_g532, M_p533, M_g533, M_p534, M_g534, M_p535, M_g535, M_p536, M_g536, M_p537, M_g537, M_p542, M_g542, M_p545, M_g545, M_p546, M_g546, M_p547, M_g547, M_p548, M_g548, M_p550, M_g550, M_hz, M_hs, jL_mul, jL_add, jL_sub, jL_div, jL_rem, jL_of32, jI_of64, jI_add, jI_sub, jI_mul, jI_div, jI_rem, jI_neg, jI_eq, jI_lt, jI_le, jI_eq0, jI_lt0, jI_0lt, jI_le0, jI_0le, forall_eq, true_and, and_true, or_true, true_or, or_false, false_or, and_false, false_and, not_true_eq_false, not_false_eq_true, false_implies, true_implies, implies_true, Int.reduceEq, Int.reduceLT, Int.reduceLE, Int.reduceAdd, Int.reduceSub, Int.reduceMul, Int.reduceNeg, Int.reduceNe, Nat.reduceEqDiff, Nat.reduceAdd, Int.cast_ofNat_Int, ne_eq, ↓reduceIte, sr_eq, sr_sr, sr_ne, up_up, vp_jI]
        refine bad (fun g => ?_)
        rcases g with ⟨-, -, g⟩ | ⟨g, -⟩ | ⟨g, -⟩ | ⟨g, -⟩
        · exact w g
        all_goals omega
    · simp (disch := omega) only [M_kd, M_ref1, M_kd1, M_ln1, M_get1, M_put1, M_ref2, M_kd2, M_ln2, M_get2, M_put2, M_ref3, M_kd3, M_ln3, M_get3, M_put3, M_ref4, M_kd4, M_ln4, M_get4, M_put4, M_ref5, M_kd5, M_ln5, M_get5, M_put5, M_ref6, M_kd6, M_ln6, M_get6, M_put6, M_ref7, M_kd7, M_ln7, M_get7, M_put7, M_ref8, M_kd8, M_ln8, M_get8, M_put8, M_ref9, M_kd9, M_ln9, M_get9, M_put9, M_ref10, M_kd10, M_ln10, M_get10, M_put10, M_ref11, M_kd11, M_ln11, M_get11, M_put11, M_ref12, M_kd12, M_ln12, M_get12, M_put12, M_ref13, M_kd13, M_ln13, M_get13, M_put13, M_ref14, M_kd14, M_ln14, M_get14, M_put14, M_p526, M_g526, M_p527, M_g527, M_p529, M_g529, M_p530, M_g530, M_p531, M_g531, M_p532, M_g532, M_p533, M_g533, M_p534, M_g534, M_p535, M_g535, M_p536, M_g536, M_p537, M_g537, M_p542, M_g542, M_p545, M_g545, M_p546, M_g546, M_p547, M_g547, M_p548, M_g548, M_p550, M_g550, M_hz, M_hs, jL_mul, jL_add, jL_sub, jL_div, jL_rem, jL_of32, jI_of64, jI_add, jI_sub, jI_mul, jI_div, jI_rem, jI_neg, jI_eq, jI_lt, jI_le, jI_eq0, jI_lt0, jI_0lt, jI_le0, jI_0le, forall_eq, true_and, and_true, or_true, true_or, or_false, false_or, and_false, false_and, not_true_eq_false, not_false_eq_true, false_implies, true_implies, implies_true, Int.reduceEq, Int.reduceLT, Int.reduceLE, Int.reduceAdd, Int.reduceSub, Int.reduceMul, Int.reduceNeg, Int.reduceNe, Nat.reduceEqDiff, Nat.reduceAdd, Int.cast_ofNat_Int, ne_eq, ↓reduceIte, sr_eq, sr_sr, sr_ne, up_up, vp_jI]
      exact go _ (Or.inr (Or.inl ⟨rfl, hh⟩)) (Or.inl hcd.symm)
    · simp (disch := omega) only [M_kd, M_ref1, M_kd1, M_ln1, M_get1, M_put1, M_ref2, M_kd2, M_ln2, M_get2, M_put2, M_ref3, M_kd3, M_ln3, M_get3, M_put3, M_ref4, M_kd4, M_ln4, M_get4, M_put4, M_ref5, M_kd5, M_ln5, M_get5, M_put5, M_ref6, M_kd6, M_ln6, M_get6, M_put6, M_ref7, M_kd7, M_ln7, M_get7, M_put7, M_ref8, M_kd8, M_ln8, M_get8, M_put8, M_ref9, M_kd9, M_ln9, M_get9, M_put9, M_ref10, M_kd10, M_ln10, M_get10, M_put10, M_ref11, M_kd11, M_ln11, M_get11, M_put11, M_ref12, M_kd12, M_ln12, M_get12, M_put12, M_ref13, M_kd13, M_ln13, M_get13, M_put13, M_ref14, M_kd14, M_ln14, M_get14, M_put14, M_p526, M_g526, M_p527, M_g527, M_p529, M_g529, M_p530, M_g530, M_p531, M_g531, M_p532, M_g532, M_p533, M_g533, M_p534, M_g534, M_p535, M_g535, M_p536, M_g536, M_p537, M_g537, M_p542, M_g542, M_p545, M_g545, M_p546, M_g546, M_p547, M_g547, M_p548, M_g548, M_p550, M_g550, M_hz, M_hs, jL_mul, jL_add, jL_sub, jL_div, jL_rem, jL_of32, jI_of64, jI_add, jI_sub, jI_mul, jI_div, jI_rem, jI_neg, jI_eq, jI_lt, jI_le, jI_eq0, jI_lt0, jI_0lt, jI_le0, jI_0le, forall_eq, true_and, and_true, or_true, true_or, or_false, false_or, and_false, false_and, not_true_eq_false, not_false_eq_true, false_implies, true_implies, implies_true, Int.reduceEq, Int.reduceLT, Int.reduceLE, Int.reduceAdd, Int.reduceSub, Int.reduceMul, Int.reduceNeg, Int.reduceNe, Nat.reduceEqDiff, Nat.reduceAdd, Int.cast_ofNat_Int, ne_eq, ↓reduceIte, sr_eq, sr_sr, sr_ne, up_up, vp_jI, e1, hU, hT]
      refine ⟨fun g => bad (fun g2 => ?_), fun g => go _ (Or.inr (Or.inr (Or.inl ⟨rfl, by omega⟩))) (Or.inr (by omega))⟩
      rcases g2 with ⟨g2, -⟩ | ⟨g2, -⟩ | ⟨-, g2⟩ | ⟨g2, -⟩ <;> omega
    · simp (disch := omega) only [M_kd, M_ref1, M_kd1, M_ln1, M_get1, M_put1, M_ref2, M_kd2, M_ln2, M_get2, M_put2, M_ref3, M_kd3, M_ln3, M_get3, M_put3, M_ref4, M_kd4, M_ln4, M_get4, M_put4, M_ref5, M_kd5, M_ln5, M_get5, M_put5, M_ref6, M_kd6, M_ln6, M_get6, M_put6, M_ref7, M_kd7, M_ln7, M_get7, M_put7, M_ref8, M_kd8, M_ln8, M_get8, M_put8, M_ref9, M_kd9, M_ln9, M_get9, M_put9, M_ref10, M_kd10, M_ln10, M_get10, M_put10, M_ref11, M_kd11, M_ln11, M_get11, M_put11, M_ref12, M_kd12, M_ln12, M_get12, M_put12, M_ref13, M_kd13, M_ln13, M_get13, M_put13, M_ref14, M_kd14, M_ln14, M_get14, M_put14, M_p526, M_g526, M_p527, M_g527, M_p529, M_g529, M_p530, M_g530, M_p531, M_g531, M_p532, M_g532, M_p533, M_g533, M_p534, M_g534, M_p535, M_g535, M_p536, M_g536, M_p537, M_g537, M_p542, M_g542, M_p545, M_g545, M_p546, M_g546, M_p547, M_g547, M_p548, M_g548, M_p550, M_g550, M_hz, M_hs, jL_mul, jL_add, jL_sub, jL_div, jL_rem, jL_of32, jI_of64, jI_add, jI_sub, jI_mul, jI_div, jI_rem, jI_neg, jI_eq, jI_lt, jI_le, jI_eq0, jI_lt0, jI_0lt, jI_le0, jI_0le, forall_eq, true_and, and_true, or_true, true_or, or_false, false_or, and_false, false_and, not_true_eq_false, not_false_eq_true, false_implies, true_implies, implies_true, Int.reduceEq, Int.reduceLT, Int.reduceLE, Int.reduceAdd, Int.reduceSub, Int.reduceMul, Int.reduceNeg, Int.reduceNe, Nat.reduceEqDiff, Nat.reduceAdd, Int.cast_ofNat_Int, ne_eq, ↓reduceIte, sr_eq, sr_sr, sr_ne, up_up, vp_jI, e1, hU, hT]
      refine ⟨fun g => bad (fun g2 => ?_), fun g => go _ (Or.inr (Or.inr (Or.inr ⟨rfl, g⟩))) (Or.inr (by omega))⟩
      rcases g2 with ⟨g2, -⟩ | ⟨g2, -⟩ | ⟨g2, -⟩ | ⟨-, g2⟩
      · omega
      · omega
      · omega
      · exact g g2
  · refine m_in (by omega) hkk (by omega) (by omega) (fun q => absurd ⟨q.1, by omega⟩ hh) (fun q => ⟨_, rfl, ?_⟩)
    simp (disch := omega) only [M_kd, M_ref1, M_kd1, M_ln1, M_get1, M_put1, M_ref2, M_kd2, M_ln2, M_get2, M_put2, M_ref3, M_kd3, M_ln3, M_get3, M_put3, M_ref4, M_kd4, M_ln4, M_get4, M_put4, M_ref5, M_kd5, M_ln5, M_get5, M_put5, M_ref6, M_kd6, M_ln6, M_get6, M_put6, M_ref7, M_kd7, M_ln7, M_get7, M_put7, M_ref8, M_kd8, M_ln8, M_get8, M_put8, M_ref9, M_kd9, M_ln9, M_get9, M_put9, M_ref10, M_kd10, M_ln10, M_get10, M_put10, M_ref11, M_kd11, M_ln11, M_get11, M_put11, M_ref12, M_kd12, M_ln12, M_get12, M_put12, M_ref13, M_kd13, M_ln13, M_get13, M_put13, M_ref14, M_kd14, M_ln14, M_get14, M_put14, M_p526, M_g526, M_p527, M_g527, M_p529, M_g529, M_p530, M_g530, M_p531, M_g531, M_p532, M_g532, M_p533, M_g533, M_p534, M_g534, M_p535, M_g535, M_p536, M_g536, M_p537, M_g537, M_p542, M_g542, M_p545, M_g545, M_p546, M_g546, M_p547, M_g547, M_p548, M_g548, M_p550, M_g550, M_hz, M_hs, jL_mul, jL_add, jL_sub, jL_div, jL_rem, jL_of32, jI_of64, jI_add, jI_sub, jI_mul, jI_div, jI_rem, jI_neg, jI_eq, jI_lt, jI_le, jI_eq0, jI_lt0, jI_0lt, jI_le0, jI_0le, forall_eq, true_and, and_true, or_true, true_or, or_false, false_or, and_false, false_and, not_true_eq_false, not_false_eq_true, false_implies, true_implies, implies_true, Int.reduceEq, Int.reduceLT, Int.reduceLE, Int.reduceAdd, Int.reduceSub, Int.reduceMul, Int.reduceNeg, Int.reduceNe, Nat.reduceEqDiff, Nat.reduceAdd, Int.cast_ofNat_Int, ne_eq, ↓reduceIte, sr_eq, sr_sr, sr_ne, up_up, vp_jI]
    have hk4 : kind = 0 ∨ kind = 1 ∨ kind = 2 ∨ kind = 3 := by omega
    rcases hk4 with rfl | rfl | rfl | rfl
    · simp (disch := omega) only [M_kd, M_ref1, M_kd1, M_ln1, M_get1, M_put1, M_ref2, M_kd2, M_ln2, M_get2, M_put2, M_ref3, M_kd3, M_ln3, M_get3, M_put3, M_ref4, M_kd4, M_ln4, M_get4, M_put4, M_ref5, M_kd5, M_ln5, M_get5, M_put5, M_ref6, M_kd6, M_ln6, M_get6, M_put6, M_ref7, M_kd7, M_ln7, M_get7, M_put7, M_ref8, M_kd8, M_ln8, M_get8, M_put8, M_ref9, M_kd9, M_ln9, M_get9, M_put9, M_ref10, M_kd10, M_ln10, M_get10, M_put10, M_ref11, M_kd11, M_ln11, M_get11, M_put11, M_ref12, M_kd12, M_ln12, M_get12, M_put12, M_ref13, M_kd13, M_ln13, M_get13, M_put13, M_ref14, M_kd14, M_ln14, M_get14, M_put14, M_p526, M_g526, M_p527, M_g527, M_p529, M_g529, M_p530, M_g530, M_p531, M_g531, M_p532, M_g532, M_p533, M_g533, M_p534, M_g534, M_p535, M_g535, M_p536, M_g536, M_p537, M_g537, M_p542, M_g542, M_p545, M_g545, M_p546, M_g546, M_p547, M_g547, M_p548, M_g548, M_p550, M_g550, M_hz, M_hs, jL_mul, jL_add, jL_sub, jL_div, jL_rem, jL_of32, jI_of64, jI_add, jI_sub, jI_mul, jI_div, jI_rem, jI_neg, jI_eq, jI_lt, jI_le, jI_eq0, jI_lt0, jI_0lt, jI_le0, jI_0le, forall_eq, true_and, and_true, or_true, true_or, or_false, false_or, and_false, false_and, not_true_eq_false, not_false_eq_true, false_implies, true_implies, implies_true, Int.reduceEq, Int.reduceLT, Int.reduceLE, Int.reduceAdd, Int.reduceSub, Int.reduceMul, Int.reduceNeg, Int.reduceNe, Nat.reduceEqDiff, Nat.reduceAdd, Int.cast_ofNat_Int, ne_eq, ↓reduceIte, sr_eq, sr_sr, sr_ne, up_up, vp_jI]
      refine bad (fun g => ?_)
      rcases g with ⟨-, g, -⟩ | ⟨g, -⟩ | ⟨g, -⟩ | ⟨g, -⟩
      · exact hh g
      all_goals omega
    · simp (disch := omega) only [M_kd, M_ref1, M_kd1, M_ln1, M_get1, M_put1, M_ref2, M_kd2, M_ln2, M_get2, M_put2, M_ref3, M_kd3, M_ln3, M_get3, M_put3, M_ref4, M_kd4, M_ln4, M_get4, M_put4, M_ref5, M_kd5, M_ln5, M_get5, M_put5, M_ref6, M_kd6, M_ln6, M_get6, M_put6, M_ref7, M_kd7, M_ln7, M_get7, M_put7, M_ref8, M_kd8, M_ln8, M_get8, M_put8, M_ref9, M_kd9, M_ln9, M_get9, M_put9, M_ref10, M_kd10, M_ln10, M_get10, M_put10, M_ref11, M_kd11, M_ln11, M_get11, M_put11, M_ref12, M_kd12, M_ln12, M_get12, M_put12, M_ref13, M_kd13, M_ln13, M_get13, M_put13, M_ref14, M_kd14, M_ln14, M_get14, M_put14, M_p526, M_g526, M_p527, M_g527, M_p529, M_g529, M_p530, M_g530, M_p531, M_g531, M_p532, M_g532, M_p533, M_g533, M_p534, M_g534, M_p535, M_g535, M_p536, M_g536, M_p537, M_g537, M_p542, M_g542, M_p545, M_g545, M_p546, M_g546, M_p547, M_g547, M_p548, M_g548, M_p550, M_g550, M_hz, M_hs, jL_mul, jL_add, jL_sub, jL_div, jL_rem, jL_of32, jI_of64, jI_add, jI_sub, jI_mul, jI_div, jI_rem, jI_neg, jI_eq, jI_lt, jI_le, jI_eq0, jI_lt0, jI_0lt, jI_le0, jI_0le, forall_eq, true_and, and_true, or_true, true_or, or_false, false_or, and_false, false_and, not_true_eq_false, not_false_eq_true, false_implies, true_implies, implies_true, Int.reduceEq, Int.reduceLT, Int.reduceLE, Int.reduceAdd, Int.reduceSub, Int.reduceMul, Int.reduceNeg, Int.reduceNe, Nat.reduceEqDiff, Nat.reduceAdd, Int.cast_ofNat_Int, ne_eq, ↓reduceIte, sr_eq, sr_sr, sr_ne, up_up, vp_jI]
      refine bad (fun g => ?_)
      rcases g with ⟨g, -⟩ | ⟨-, g⟩ | ⟨g, -⟩ | ⟨g, -⟩
      · omega
      · exact hh g
      all_goals omega
    · simp (disch := omega) only [M_kd, M_ref1, M_kd1, M_ln1, M_get1, M_put1, M_ref2, M_kd2, M_ln2, M_get2, M_put2, M_ref3, M_kd3, M_ln3, M_get3, M_put3, M_ref4, M_kd4, M_ln4, M_get4, M_put4, M_ref5, M_kd5, M_ln5, M_get5, M_put5, M_ref6, M_kd6, M_ln6, M_get6, M_put6, M_ref7, M_kd7, M_ln7, M_get7, M_put7, M_ref8, M_kd8, M_ln8, M_get8, M_put8, M_ref9, M_kd9, M_ln9, M_get9, M_put9, M_ref10, M_kd10, M_ln10, M_get10, M_put10, M_ref11, M_kd11, M_ln11, M_get11, M_put11, M_ref12, M_kd12, M_ln12, M_get12, M_put12, M_ref13, M_kd13, M_ln13, M_get13, M_put13, M_ref14, M_kd14, M_ln14, M_get14, M_put14, M_p526, M_g526, M_p527, M_g527, M_p529, M_g529, M_p530, M_g530, M_p531, M_g531, M_p532, M_g532, M_p533, M_g533, M_p534, M_g534, M_p535, M_g535, M_p536, M_g536, M_p537, M_g537, M_p542, M_g542, M_p545, M_g545, M_p546, M_g546, M_p547, M_g547, M_p548, M_g548, M_p550, M_g550, M_hz, M_hs, jL_mul, jL_add, jL_sub, jL_div, jL_rem, jL_of32, jI_of64, jI_add, jI_sub, jI_mul, jI_div, jI_rem, jI_neg, jI_eq, jI_lt, jI_le, jI_eq0, jI_lt0, jI_0lt, jI_le0, jI_0le, forall_eq, true_and, and_true, or_true, true_or, or_false, false_or, and_false, false_and, not_true_eq_false, not_false_eq_true, false_implies, true_implies, implies_true, Int.reduceEq, Int.reduceLT, Int.reduceLE, Int.reduceAdd, Int.reduceSub, Int.reduceMul, Int.reduceNeg, Int.reduceNe, Nat.reduceEqDiff, Nat.reduceAdd, Int.cast_ofNat_Int, ne_eq, ↓reduceIte, sr_eq, sr_sr, sr_ne, up_up, vp_jI, e1, hU, hT]
      refine ⟨fun g => bad (fun g2 => ?_), fun g => go _ (Or.inr (Or.inr (Or.inl ⟨rfl, by omega⟩))) (Or.inr (by omega))⟩
      rcases g2 with ⟨g2, -⟩ | ⟨g2, -⟩ | ⟨-, g2⟩ | ⟨g2, -⟩ <;> omega
    · simp (disch := omega) only [M_kd, M_ref1, M_kd1, M_ln1, M_get1, M_put1, M_ref2, M_kd2, M_ln2, M_get2, M_put2, M_ref3, M_kd3, M_ln3, M_get3, M_put3, M_ref4, M_kd4, M_ln4, M_get4, M_put4, M_ref5, M_kd5, M_ln5, M_get5, M_put5, M_ref6, M_kd6, M_ln6, M_get6, M_put6, M_ref7, M_kd7, M_ln7, M_get7, M_put7, M_ref8, M_kd8, M_ln8, M_get8, M_put8, M_ref9, M_kd9, M_ln9, M_get9, M_put9, M_ref10, M_kd10, M_ln10, M_get10, M_put10, M_ref11, M_kd11, M_ln11, M_get11, M_put11, M_ref12, M_kd12, M_ln12, M_get12, M_put12, M_ref13, M_kd13, M_ln13, M_get13, M_put13, M_ref14, M_kd14, M_ln14, M_get14, M_put14, M_p526, M_g526, M_p527, M_g527, M_p529, M_g529, M_p530, M_g530, M_p531, M_g531, M_p532, M_g532, M_p533, M_g533, M_p534, M_g534, M_p535, M_g535, M_p536, M_g536, M_p537, M_g537, M_p542, M_g542, M_p545, M_g545, M_p546, M_g546, M_p547, M_g547, M_p548, M_g548, M_p550, M_g550, M_hz, M_hs, jL_mul, jL_add, jL_sub, jL_div, jL_rem, jL_of32, jI_of64, jI_add, jI_sub, jI_mul, jI_div, jI_rem, jI_neg, jI_eq, jI_lt, jI_le, jI_eq0, jI_lt0, jI_0lt, jI_le0, jI_0le, forall_eq, true_and, and_true, or_true, true_or, or_false, false_or, and_false, false_and, not_true_eq_false, not_false_eq_true, false_implies, true_implies, implies_true, Int.reduceEq, Int.reduceLT, Int.reduceLE, Int.reduceAdd, Int.reduceSub, Int.reduceMul, Int.reduceNeg, Int.reduceNe, Nat.reduceEqDiff, Nat.reduceAdd, Int.cast_ofNat_Int, ne_eq, ↓reduceIte, sr_eq, sr_sr, sr_ne, up_up, vp_jI, e1, hU, hT]
      refine ⟨fun g => bad (fun g2 => ?_), fun g => go _ (Or.inr (Or.inr (Or.inr ⟨rfl, g⟩))) (Or.inr (by omega))⟩
      rcases g2 with ⟨g2, -⟩ | ⟨g2, -⟩ | ⟨g2, -⟩ | ⟨-, g2⟩
      · omega
      · omega
      · omega
      · exact g g2
theorem vw_bd {r : Row} (h : GI r) (h12 : r 12 = 0) {kind k : Int} : -8 ≤ vwR r kind k ∧ vwR r kind k ≤ 20 := by
  unfold vwR
  by_cases q : senR r kind k
  · rw [ifP_t q]
    have h2 := r2_of h h12
    have := valF_bd (RX_of h h2) (mv_ok (RX_of h h2) (VP_pr h h2) (sen_ok h q) (left_of h h12))
    omega
  · rw [ifP_f q]; omega
noncomputable def vbR (r : Row) (kind k : Int) : Int := ifP (0 ≤ kind ∧ kind ≤ 3) (ifP (r 12 = 0) (vwR r kind k) (-3)) 0
theorem m_valueBehind (hd : 20 ≤ d) (hr : GI (S 1)) {kind k : Int} (hk : -2147483648 ≤ kind ∧ kind < 2147483648) (hkk : -2147483648 ≤ k ∧ k < 2147483648) (hp : ∀ S' L', XF (sr S 0 (up (S 0) 527 (ifP (0 ≤ kind ∧ kind ≤ 3) 0 1))) S' → post (some (.int (jI (vbR (S 1) kind k)))) (MH h0 m S' L')) : D G l d mX7_valueBehind [vR m, vI (jI kind), vI (jI k)] (MH h0 m S L) post xp := by
  have hb := r12_bd hr
  unfold vbR at hp
  refine t_X7_valueBehind (by omega) ?_
  refine m_in (by omega) hk (by omega) (by omega) (fun q => ⟨_, rfl, M_kd, m_isThrown1 (by omega) rfl ⟨_, rfl, ?_⟩⟩) (fun q => ⟨_, rfl, M_kd, m_isThrown0 (by omega) rfl ⟨_, rfl, ?_⟩⟩)
  · rw [ifP_t q, ifP_t q] at hp
    simp (disch := omega) only [M_kd, M_ref1, M_kd1, M_ln1, M_get1, M_put1, M_ref2, M_kd2, M_ln2, M_get2, M_put2, M_ref3, M_kd3, M_ln3, M_get3, M_put3, M_ref4, M_kd4, M_ln4, M_get4, M_put4, M_ref5, M_kd5, M_ln5, M_get5, M_put5, M_ref6, M_kd6, M_ln6, M_get6, M_put6, M_ref7, M_kd7, M_ln7, M_get7, M_put7, M_ref8, M_kd8, M_ln8, M_get8, M_put8, M_ref9, M_kd9, M_ln9, M_get9, M_put9, M_ref10, M_kd10, M_ln10, M_get10, M_put10, M_ref11, M_kd11, M_ln11, M_get11, M_put11, M_ref12, M_kd12, M_ln12, M_get12, M_put12, M_ref13, M_kd13, M_ln13, M_get13, M_put13, M_ref14, M_kd14, M_ln14, M_get14, M_put14, M_p526, M_g526, M_p527, M_g527, M_p529, M_g529, M_p530, M_g530, M_p531, M_g531, M_p532, M_g532, M_p533, M_g533, M_p534, M_g534, M_p535, M_g535, M_p536, M_g536, M_p537, M_g537, M_p542, M_g542, M_p545, M_g545, M_p546, M_g546, M_p547, M_g547, M_p548, M_g548, M_p550, M_g550, M_hz, M_hs, jL_mul, jL_add, jL_sub, jL_div, jL_rem, jL_of32, jI_of64, jI_add, jI_sub, jI_mul, jI_div, jI_rem, jI_neg, jI_eq, jI_lt, jI_le, jI_eq0, jI_lt0, jI_0lt, jI_le0, jI_0le, forall_eq, true_and, and_true, or_true, true_or, or_false, false_or, and_false, false_and, not_true_eq_false, not_false_eq_true, false_implies, true_implies, implies_true, Int.reduceEq, Int.reduceLT, Int.reduceLE, Int.reduceAdd, Int.reduceSub, Int.reduceMul, Int.reduceNeg, Int.reduceNe, Nat.reduceEqDiff, Nat.reduceAdd, Int.cast_ofNat_Int, ne_eq, ↓reduceIte, sr_eq, sr_sr, sr_ne, up_up, vp_jI]
    refine m_isOver (S := (sr S 0 (up (S 0) 527 0))) (by omega) hb (fun g => ⟨_, rfl, ?_⟩) (fun g => ⟨_, rfl, ?_⟩)
    · rw [sr_ne (by omega)] at g
      rw [ifP_f g] at hp
      simp (disch := omega) only [M_kd, M_ref1, M_kd1, M_ln1, M_get1, M_put1, M_ref2, M_kd2, M_ln2, M_get2, M_put2, M_ref3, M_kd3, M_ln3, M_get3, M_put3, M_ref4, M_kd4, M_ln4, M_get4, M_put4, M_ref5, M_kd5, M_ln5, M_get5, M_put5, M_ref6, M_kd6, M_ln6, M_get6, M_put6, M_ref7, M_kd7, M_ln7, M_get7, M_put7, M_ref8, M_kd8, M_ln8, M_get8, M_put8, M_ref9, M_kd9, M_ln9, M_get9, M_put9, M_ref10, M_kd10, M_ln10, M_get10, M_put10, M_ref11, M_kd11, M_ln11, M_get11, M_put11, M_ref12, M_kd12, M_ln12, M_get12, M_put12, M_ref13, M_kd13, M_ln13, M_get13, M_put13, M_ref14, M_kd14, M_ln14, M_get14, M_put14, M_p526, M_g526, M_p527, M_g527, M_p529, M_g529, M_p530, M_g530, M_p531, M_g531, M_p532, M_g532, M_p533, M_g533, M_p534, M_g534, M_p535, M_g535, M_p536, M_g536, M_p537, M_g537, M_p542, M_g542, M_p545, M_g545, M_p546, M_g546, M_p547, M_g547, M_p548, M_g548, M_p550, M_g550, M_hz, M_hs, jL_mul, jL_add, jL_sub, jL_div, jL_rem, jL_of32, jI_of64, jI_add, jI_sub, jI_mul, jI_div, jI_rem, jI_neg, jI_eq, jI_lt, jI_le, jI_eq0, jI_lt0, jI_0lt, jI_le0, jI_0le, forall_eq, true_and, and_true, or_true, true_or, or_false, false_or, and_false, false_and, not_true_eq_false, not_false_eq_true, false_implies, true_implies, implies_true, Int.reduceEq, Int.reduceLT, Int.reduceLE, Int.reduceAdd, Int.reduceSub, Int.reduceMul, Int.reduceNeg, Int.reduceNe, Nat.reduceEqDiff, Nat.reduceAdd, Int.cast_ofNat_Int, ne_eq, ↓reduceIte, sr_eq, sr_sr, sr_ne, up_up, vp_jI]
      exact hp _ _ XF.rfl
    · rw [sr_ne (by omega)] at g
      rw [ifP_t g] at hp
      simp (disch := omega) only [M_kd, M_ref1, M_kd1, M_ln1, M_get1, M_put1, M_ref2, M_kd2, M_ln2, M_get2, M_put2, M_ref3, M_kd3, M_ln3, M_get3, M_put3, M_ref4, M_kd4, M_ln4, M_get4, M_put4, M_ref5, M_kd5, M_ln5, M_get5, M_put5, M_ref6, M_kd6, M_ln6, M_get6, M_put6, M_ref7, M_kd7, M_ln7, M_get7, M_put7, M_ref8, M_kd8, M_ln8, M_get8, M_put8, M_ref9, M_kd9, M_ln9, M_get9, M_put9, M_ref10, M_kd10, M_ln10, M_get10, M_put10, M_ref11, M_kd11, M_ln11, M_get11, M_put11, M_ref12, M_kd12, M_ln12, M_get12, M_put12, M_ref13, M_kd13, M_ln13, M_get13, M_put13, M_ref14, M_kd14, M_ln14, M_get14, M_put14, M_p526, M_g526, M_p527, M_g527, M_p529, M_g529, M_p530, M_g530, M_p531, M_g531, M_p532, M_g532, M_p533, M_g533, M_p534, M_g534, M_p535, M_g535, M_p536, M_g536, M_p537, M_g537, M_p542, M_g542, M_p545, M_g545, M_p546, M_g546, M_p547, M_g547, M_p548, M_g548, M_p550, M_g550, M_hz, M_hs, jL_mul, jL_add, jL_sub, jL_div, jL_rem, jL_of32, jI_of64, jI_add, jI_sub, jI_mul, jI_div, jI_rem, jI_neg, jI_eq, jI_lt, jI_le, jI_eq0, jI_lt0, jI_0lt, jI_le0, jI_0le, forall_eq, true_and, and_true, or_true, true_or, or_false, false_or, and_false, false_and, not_true_eq_false, not_false_eq_true, false_implies, true_implies, implies_true, Int.reduceEq, Int.reduceLT, Int.reduceLE, Int.reduceAdd, Int.reduceSub, Int.reduceMul, Int.reduceNeg, Int.reduceNe, Nat.reduceEqDiff, Nat.reduceAdd, Int.cast_ofNat_Int, ne_eq, ↓reduceIte, sr_eq, sr_sr, sr_ne, up_up, vp_jI]
      refine m_valueWith (S := (sr S 0 (up (S 0) 527 0))) (by omega) (by rw [sr_ne (by omega)]; exact hr) (by rw [sr_ne (by omega)]; exact g) q hkk (fun S2 L2 a1 => ⟨_, rfl, ?_⟩)
      rw [sr_ne (by omega)]
      exact hp _ _ a1
  · rw [ifP_f q, ifP_f q] at hp
    simp (disch := omega) only [M_kd, M_ref1, M_kd1, M_ln1, M_get1, M_put1, M_ref2, M_kd2, M_ln2, M_get2, M_put2, M_ref3, M_kd3, M_ln3, M_get3, M_put3, M_ref4, M_kd4, M_ln4, M_get4, M_put4, M_ref5, M_kd5, M_ln5, M_get5, M_put5, M_ref6, M_kd6, M_ln6, M_get6, M_put6, M_ref7, M_kd7, M_ln7, M_get7, M_put7, M_ref8, M_kd8, M_ln8, M_get8, M_put8, M_ref9, M_kd9, M_ln9, M_get9, M_put9, M_ref10, M_kd10, M_ln10, M_get10, M_put10, M_ref11, M_kd11, M_ln11, M_get11, M_put11, M_ref12, M_kd12, M_ln12, M_get12, M_put12, M_ref13, M_kd13, M_ln13, M_get13, M_put13, M_ref14, M_kd14, M_ln14, M_get14, M_put14, M_p526, M_g526, M_p527, M_g527, M_p529, M_g529, M_p530, M_g530, M_p531, M_g531, M_p532, M_g532, M_p533, M_g533, M_p534, M_g534, M_p535, M_g535, M_p536, M_g536, M_p537, M_g537, M_p542, M_g542, M_p545, M_g545, M_p546, M_g546, M_p547, M_g547, M_p548, M_g548, M_p550, M_g550, M_hz, M_hs, jL_mul, jL_add, jL_sub, jL_div, jL_rem, jL_of32, jI_of64, jI_add, jI_sub, jI_mul, jI_div, jI_rem, jI_neg, jI_eq, jI_lt, jI_le, jI_eq0, jI_lt0, jI_0lt, jI_le0, jI_0le, forall_eq, true_and, and_true, or_true, true_or, or_false, false_or, and_false, false_and, not_true_eq_false, not_false_eq_true, false_implies, true_implies, implies_true, Int.reduceEq, Int.reduceLT, Int.reduceLE, Int.reduceAdd, Int.reduceSub, Int.reduceMul, Int.reduceNeg, Int.reduceNe, Nat.reduceEqDiff, Nat.reduceAdd, Int.cast_ofNat_Int, ne_eq, ↓reduceIte, sr_eq, sr_sr, sr_ne, up_up, vp_jI]
    exact hp _ _ XF.rfl
/-! the best move -/
def bmP (r : Row) (n : Int) : Prop := n % 8 < (if n / 8 < 2 then r (187 + r 10) else 1) ∧ vwR r (n / 8) (n % 8) = valF r (prP r)
noncomputable def bmN (r : Row) : Int := fk 32 (bmP r)
noncomputable def bmR (r : Row) (what : Int) : Int := ifP (valF r (prP r) = -8) (-8) (if bmN r = -1 then -1 else if what = 0 then bmN r / 8 else if bmN r / 8 < 2 then bmN r % 8 else -1)
noncomputable def bmF (r : Row) (what : Int) : Int := ifP (0 ≤ what ∧ what ≤ 1) (ifP (r 12 = 0) (bmR r what) (-3)) 0
theorem bmN_at {r : Row} {n : Int} (hn : 0 ≤ n ∧ n < 32) (h : bmP r n) (ho : ∀ j, 0 ≤ j → j < n → ¬ bmP r j) : bmN r = n := by
  unfold bmN
  rcases fk_spec (n := 32) (P := bmP r) with ⟨_, h1⟩ | ⟨h1, h2, h3, h4⟩
  · exact absurd h (h1 n hn.1 (by omega))
  · by_cases g : fk 32 (bmP r) < n
    · exact absurd h3 (ho _ h1 g)
    · by_cases g2 : n < fk 32 (bmP r)
      · exact absurd h (h4 n hn.1 g2)
      · omega
theorem bmN_none {r : Row} (ho : ∀ j, 0 ≤ j → j < 32 → ¬ bmP r j) : bmN r = -1 := fk_none (fun i a b => ho i a (by omega))
theorem m_bestMove (hd : 20 ≤ d) (hr : GI (S 1)) {what : Int} (hw : -2147483648 ≤ what ∧ what < 2147483648) (hp : ∀ S' L', XF (sr S 0 (up (S 0) 527 (ifP (0 ≤ what ∧ what ≤ 1) 0 1))) S' → post (some (.int (jI (bmF (S 1) what)))) (MH h0 m S' L')) : D G l d mX7_bestMove [vR m, vI (jI what)] (MH h0 m S L) post xp := by
  have hb := r12_bd hr
  unfold bmF at hp
  refine D_in (by omega) rfl rfl fun V XV C => b_X7_bestMove_0 C ?_
  refine m_in (by omega) hw (by omega) (by omega) (fun q => ⟨_, rfl, M_kd, m_isThrown1 (by omega) rfl ⟨_, rfl, ?_⟩⟩) (fun q => ⟨_, rfl, M_kd, m_isThrown0 (by omega) rfl ⟨_, rfl, ?_⟩⟩)
  · rw [ifP_t q, ifP_t q] at hp
    simp (disch := omega) only [M_kd, M_ref1, M_kd1, M_ln1, M_get1, M_put1, M_ref2, M_kd2, M_ln2, M_get2, M_put2, M_ref3, M_kd3, M_ln3, M_get3, M_put3, M_ref4, M_kd4, M_ln4, M_get4, M_put4, M_ref5, M_kd5, M_ln5, M_get5, M_put5, M_ref6, M_kd6, M_ln6, M_get6, M_put6, M_ref7, M_kd7, M_ln7, M_get7, M_put7, M_ref8, M_kd8, M_ln8, M_get8, M_put8, M_ref9, M_kd9, M_ln9, M_get9, M_put9, M_ref10, M_kd10, M_ln10, M_get10, M_put10, M_ref11, M_kd11, M_ln11, M_get11, M_put11, M_ref12, M_kd12, M_ln12, M_get12, M_put12, M_ref13, M_kd13, M_ln13, M_get13, M_put13, M_ref14, M_kd14, M_ln14, M_get14, M_put14, M_p526, M_g526, M_p527, M_g527, M_p529, M_g529, M_p530, M_g530, M_p531, M_g531, M_p532, M_g532, M_p533, M_g533, M_p534, M_g534, M_p535, M_g535, M_p536, M_g536, M_p537, M_g537, M_p542, M_g542, M_p545, M_g545, M_p546, M_g546, M_p547, M_g547, M_p548, M_g548, M_p550, M_g550, M_hz, M_hs, jL_mul, jL_add, jL_sub, jL_div, jL_rem, jL_of32, jI_of64, jI_add, jI_sub, jI_mul, jI_div, jI_rem, jI_neg, jI_eq, jI_lt, jI_le, jI_eq0, jI_lt0, jI_0lt, jI_le0, jI_0le, forall_eq, true_and, and_true, or_true, true_or, or_false, false_or, and_false, false_and, not_true_eq_false, not_false_eq_true, false_implies, true_implies, implies_true, Int.reduceEq, Int.reduceLT, Int.reduceLE, Int.reduceAdd, Int.reduceSub, Int.reduceMul, Int.reduceNeg, Int.reduceNe, Nat.reduceEqDiff, Nat.reduceAdd, Int.cast_ofNat_Int, ne_eq, ↓reduceIte, sr_eq, sr_sr, sr_ne, up_up, vp_jI]
    refine m_isOver (S := (sr S 0 (up (S 0) 527 0))) (by omega) hb (fun g => ⟨_, rfl, ?_⟩) (fun g => ⟨_, rfl, ?_⟩)
    · rw [sr_ne (by omega)] at g
      rw [ifP_f g] at hp
      simp (disch := omega) only [M_kd, M_ref1, M_kd1, M_ln1, M_get1, M_put1, M_ref2, M_kd2, M_ln2, M_get2, M_put2, M_ref3, M_kd3, M_ln3, M_get3, M_put3, M_ref4, M_kd4, M_ln4, M_get4, M_put4, M_ref5, M_kd5, M_ln5, M_get5, M_put5, M_ref6, M_kd6, M_ln6, M_get6, M_put6, M_ref7, M_kd7, M_ln7, M_get7, M_put7, M_ref8, M_kd8, M_ln8, M_get8, M_put8, M_ref9, M_kd9, M_ln9, M_get9, M_put9, M_ref10, M_kd10, M_ln10, M_get10, M_put10, M_ref11, M_kd11, M_ln11, M_get11, M_put11, M_ref12, M_kd12, M_ln12, M_get12, M_put12, M_ref13, M_kd13, M_ln13, M_get13, M_put13, M_ref14, M_kd14, M_ln14, M_get14, M_put14, M_p526, M_g526, M_p527, M_g527, M_p529, M_g529, M_p530, M_g530, M_p531, M_g531, M_p532, M_g532, M_p533, M_g533, M_p534, M_g534, M_p535, M_g535, M_p536, M_g536, M_p537, M_g537, M_p542, M_g542, M_p545, M_g545, M_p546, M_g546, M_p547, M_g547, M_p548, M_g548, M_p550, M_g550, M_hz, M_hs, jL_mul, jL_add, jL_sub, jL_div, jL_rem, jL_of32, jI_of64, jI_add, jI_sub, jI_mul, jI_div, jI_rem, jI_neg, jI_eq, jI_lt, jI_le, jI_eq0, jI_lt0, jI_0lt, jI_le0, jI_0le, forall_eq, true_and, and_true, or_true, true_or, or_false, false_or, and_false, false_and, not_true_eq_false, not_false_eq_true, false_implies, true_implies, implies_true, Int.reduceEq, Int.reduceLT, Int.reduceLE, Int.reduceAdd, Int.reduceSub, Int.reduceMul, Int.reduceNeg, Int.reduceNe, Nat.reduceEqDiff, Nat.reduceAdd, Int.cast_ofNat_Int, ne_eq, ↓reduceIte, sr_eq, sr_sr, sr_ne, up_up, vp_jI]
      exact hp _ _ XF.rfl
    · rw [sr_ne (by omega)] at g
      rw [ifP_t g] at hp
      simp (disch := omega) only [M_kd, M_ref1, M_kd1, M_ln1, M_get1, M_put1, M_ref2, M_kd2, M_ln2, M_get2, M_put2, M_ref3, M_kd3, M_ln3, M_get3, M_put3, M_ref4, M_kd4, M_ln4, M_get4, M_put4, M_ref5, M_kd5, M_ln5, M_get5, M_put5, M_ref6, M_kd6, M_ln6, M_get6, M_put6, M_ref7, M_kd7, M_ln7, M_get7, M_put7, M_ref8, M_kd8, M_ln8, M_get8, M_put8, M_ref9, M_kd9, M_ln9, M_get9, M_put9, M_ref10, M_kd10, M_ln10, M_get10, M_put10, M_ref11, M_kd11, M_ln11, M_get11, M_put11, M_ref12, M_kd12, M_ln12, M_get12, M_put12, M_ref13, M_kd13, M_ln13, M_get13, M_put13, M_ref14, M_kd14, M_ln14, M_get14, M_put14, M_p526, M_g526, M_p527, M_g527, M_p529, M_g529, M_p530, M_g530, M_p531, M_g531, M_p532, M_g532, M_p533, M_g533, M_p534, M_g534, M_p535, M_g535, M_p536, M_g536, M_p537, M_g537, M_p542, M_g542, M_p545, M_g545, M_p546, M_g546, M_p547, M_g547, M_p548, M_g548, M_p550, M_g550, M_hz, M_hs, jL_mul, jL_add, jL_sub, jL_div, jL_rem, jL_of32, jI_of64, jI_add, jI_sub, jI_mul, jI_div, jI_rem, jI_neg, jI_eq, jI_lt, jI_le, jI_eq0, jI_lt0, jI_0lt, jI_le0, jI_0le, forall_eq, true_and, and_true, or_true, true_or, or_false, false_or, and_false, false_and, not_true_eq_false, not_false_eq_true, false_implies, true_implies, implies_true, Int.reduceEq, Int.reduceLT, Int.reduceLE, Int.reduceAdd, Int.reduceSub, Int.reduceMul, Int.reduceNeg, Int.reduceNe, Nat.reduceEqDiff, Nat.reduceAdd, Int.cast_ofNat_Int, ne_eq, ↓reduceIte, sr_eq, sr_sr, sr_ne, up_up, vp_jI]
      obtain ⟨h10, h10b, -⟩ := id hr.2.1
      have hsz := hr.1.2.2.2.2.2.2.2.1 (S 1 10) h10 h10b
      have hvb := valN_bd hr
      have hvn : valN (S 1) = valF (S 1) (prP (S 1)) := ifP_t g
      rw [hvn] at hvb
      refine m_valueNow (S := (sr S 0 (up (S 0) 527 0))) (by omega) (by rw [sr_ne (by omega)]; exact hr) (fun S2 L2 a1 _ => ⟨_, rfl, ?_⟩)
      rw [sr_ne (by omega), hvn]
      unfold bmR at hp
      generalize hv : valF (S 1) (prP (S 1)) = v at *
      have hP : ∀ n, bmP (S 1) n ↔ n % 8 < (if n / 8 < 2 then S 1 (187 + S 1 10) else 1) ∧ vwR (S 1) (n / 8) (n % 8) = v := fun n => by unfold bmP; rw [hv]
      simp (disch := omega) only [M_kd, M_ref1, M_kd1, M_ln1, M_get1, M_put1, M_ref2, M_kd2, M_ln2, M_get2, M_put2, M_ref3, M_kd3, M_ln3, M_get3, M_put3, M_ref4, M_kd4, M_ln4, M_get4, M_put4, M_ref5, M_kd5, M_ln5, M_get5, M_put5, M_ref6, M_kd6, M_ln6, M_get6, M_put6, M_ref7, M_kd7, M_ln7, M_get7, M_put7, M_ref8, M_kd8, M_ln8, M_get8, M_put8, M_ref9, M_kd9, M_ln9, M_get9, M_put9, M_ref10, M_kd10, M_ln10, M_get10, M_put10, M_ref11, M_kd11, M_ln11, M_get11, M_put11, M_ref12, M_kd12, M_ln12, M_get12, M_put12, M_ref13, M_kd13, M_ln13, M_get13, M_put13, M_ref14, M_kd14, M_ln14, M_get14, M_put14, M_p526, M_g526, M_p527, M_g527, M_p529, M_g529, M_p530, M_g530, M_p531, M_g531, M_p532, M_g532, M_p533, M_g533, M_p534, M_g534, M_p535, M_g535, M_p536, M_g536, M_p537, M_g537, M_p542, M_g542, M_p545, M_g545, M_p546, M_g546, M_p547, M_g547, M_p548, M_g548, M_p550, M_g550, M_hz, M_hs, jL_mul, jL_add, jL_sub, jL_div, jL_rem, jL_of32, jI_of64, jI_add, jI_sub, jI_mul, jI_div, jI_rem, jI_neg, jI_eq, jI_lt, jI_le, jI_eq0, jI_lt0, jI_0lt, jI_le0, jI_0le, forall_eq, true_and, and_true, or_true, true_or, or_false, false_or, and_false, false_and, not_true_eq_false, not_false_eq_true, false_implies, true_implies, implies_true, Int.reduceEq, Int.reduceLT, Int.reduceLE, Int.reduceAdd, Int.reduceSub, Int.reduceMul, Int.reduceNeg, Int.reduceNe, Nat.reduceEqDiff, Nat.reduceAdd, Int.cast_ofNat_Int, ne_eq, ↓reduceIte, sr_eq, sr_sr, sr_ne, up_up, vp_jI]
      refine ⟨fun q2 => ?_, fun q2 => by rw [ifP_t q2] at hp; exact hp _ _ a1⟩
      rw [ifP_f q2] at hp
      refine up_loop (P := fun kind => ∀ S1 L1, XF (sr S 0 (up (S 0) 527 0)) S1 → (∀ j, 0 ≤ j → j < 8 * kind → ¬ bmP (S 1) j) → V 42 [(0, vR m), (1, vI (jI what)), (2, vI (jI v)), (3, vI (jI kind))] [] (MH h0 m S1 L1)) (lo := 0) (hi := 4) (by omega) ?_ ?_ S2 L2 a1 (fun j _ _ => by omega)
      · intro S1 L1 hF hno
        refine b_X7_bestMove_42 C ?_
        simp (disch := omega) only [M_kd, M_ref1, M_kd1, M_ln1, M_get1, M_put1, M_ref2, M_kd2, M_ln2, M_get2, M_put2, M_ref3, M_kd3, M_ln3, M_get3, M_put3, M_ref4, M_kd4, M_ln4, M_get4, M_put4, M_ref5, M_kd5, M_ln5, M_get5, M_put5, M_ref6, M_kd6, M_ln6, M_get6, M_put6, M_ref7, M_kd7, M_ln7, M_get7, M_put7, M_ref8, M_kd8, M_ln8, M_get8, M_put8, M_ref9, M_kd9, M_ln9, M_get9, M_put9, M_ref10, M_kd10, M_ln10, M_get10, M_put10, M_ref11, M_kd11, M_ln11, M_get11, M_put11, M_ref12, M_kd12, M_ln12, M_get12, M_put12, M_ref13, M_kd13, M_ln13, M_get13, M_put13, M_ref14, M_kd14, M_ln14, M_get14, M_put14, M_p526, M_g526, M_p527, M_g527, M_p529, M_g529, M_p530, M_g530, M_p531, M_g531, M_p532, M_g532, M_p533, M_g533, M_p534, M_g534, M_p535, M_g535, M_p536, M_g536, M_p537, M_g537, M_p542, M_g542, M_p545, M_g545, M_p546, M_g546, M_p547, M_g547, M_p548, M_g548, M_p550, M_g550, M_hz, M_hs, jL_mul, jL_add, jL_sub, jL_div, jL_rem, jL_of32, jI_of64, jI_add, jI_sub, jI_mul, jI_div, jI_rem, jI_neg, jI_eq, jI_lt, jI_le, jI_eq0, jI_lt0, jI_0lt, jI_le0, jI_0le, forall_eq, true_and, and_true, or_true, true_or, or_false, false_or, and_false, false_and, not_true_eq_false, not_false_eq_true, false_implies, true_implies, implies_true, Int.reduceEq, Int.reduceLT, Int.reduceLE, Int.reduceAdd, Int.reduceSub, Int.reduceMul, Int.reduceNeg, Int.reduceNe, Nat.reduceEqDiff, Nat.reduceAdd, Int.cast_ofNat_Int, ne_eq, ↓reduceIte, sr_eq, sr_sr, sr_ne, up_up, vp_jI]
        have := hp S1 L1 hF
        rw [if_pos (bmN_none (fun j a b => hno j a (by omega)))] at this
        exact this
      · intro kind k1 k2 ih S1 L1 hF hno
        have e1 : S1 1 = S 1 := (hF.2 1 (by omega) (by omega) (by omega) (by omega)).trans (sr_ne (by omega))
        have inner : ∀ many : Int, 0 ≤ many → many ≤ 5 → many = (if kind < 2 then S 1 (187 + S 1 10) else 1) → V 77 [(0, vR m), (1, vI (jI what)), (2, vI (jI v)), (3, vI (jI kind)), (4, vI (jI many)), (5, vI (jI 0))] [] (MH h0 m S1 L1) := by
          intro many m1 m2 hm
          refine up_loop (P := fun pl => ∀ S3 L3, XF (sr S 0 (up (S 0) 527 0)) S3 → (∀ j, 0 ≤ j → j < 8 * kind + pl → ¬ bmP (S 1) j) → V 77 [(0, vR m), (1, vI (jI what)), (2, vI (jI v)), (3, vI (jI kind)), (4, vI (jI many)), (5, vI (jI pl))] [] (MH h0 m S3 L3)) (lo := 0) (hi := many) m1 ?_ ?_ S1 L1 hF (fun j a b => hno j a (by omega))
          · intro S3 L3 hF3 hno3
            refine b_X7_bestMove_77 C ?_
            simp (disch := omega) only [M_kd, M_ref1, M_kd1, M_ln1, M_get1, M_put1, M_ref2, M_kd2, M_ln2, M_get2, M_put2, M_ref3, M_kd3, M_ln3, M_get3, M_put3, M_ref4, M_kd4, M_ln4, M_get4, M_put4, M_ref5, M_kd5, M_ln5, M_get5, M_put5, M_ref6, M_kd6, M_ln6, M_get6, M_put6, M_ref7, M_kd7, M_ln7, M_get7, M_put7, M_ref8, M_kd8, M_ln8, M_get8, M_put8, M_ref9, M_kd9, M_ln9, M_get9, M_put9, M_ref10, M_kd10, M_ln10, M_get10, M_put10, M_ref11, M_kd11, M_ln11, M_get11, M_put11, M_ref12, M_kd12, M_ln12, M_get12, M_put12, M_ref13, M_kd13, M_ln13, M_get13, M_put13, M_ref14, M_kd14, M_ln14, M_get14, M_put14, M_p526, M_g526, M_p527, M_g527, M_p529, M_g529, M_p530, M_g530, M_p531, M_g531, M_p532, M_g532, M_p533, M_g533, M_p534, M_g534, M_p535, M_g535, M_p536, M_g536, M_p537, M_g537, M_p542, M_g542, M_p545, M_g545, M_p546, M_g546, M_p547, M_g547, M_p548, M_g548, M_p550, M_g550, M_hz, M_hs, jL_mul, jL_add, jL_sub, jL_div, jL_rem, jL_of32, jI_of64, jI_add, jI_sub, jI_mul, jI_div, jI_rem, jI_neg, jI_eq, jI_lt, jI_le, jI_eq0, jI_lt0, jI_0lt, jI_le0, jI_0le, forall_eq, true_and, and_true, or_true, true_or, or_false, false_or, and_false, false_and, not_true_eq_false, not_false_eq_true, false_implies, true_implies, implies_true, Int.reduceEq, Int.reduceLT, Int.reduceLE, Int.reduceAdd, Int.reduceSub, Int.reduceMul, Int.reduceNeg, Int.reduceNe, Nat.reduceEqDiff, Nat.reduceAdd, Int.cast_ofNat_Int, ne_eq, ↓reduceIte, sr_eq, sr_sr, sr_ne, up_up, vp_jI, Int.le_refl]
            refine ih S3 L3 hF3 (fun j a b => ?_)
            by_cases w : j < 8 * kind + many
            · exact hno3 j a w
            · rw [hP]
              rw [show j / 8 = kind by omega, ← hm]
              exact fun z => by omega
          · intro pl p1 p2 ih3 S3 L3 hF3 hno3
            have e3 : S3 1 = S 1 := (hF3.2 1 (by omega) (by omega) (by omega) (by omega)).trans (sr_ne (by omega))
            refine b_X7_bestMove_77 C ?_
            simp (disch := omega) only [M_kd, M_ref1, M_kd1, M_ln1, M_get1, M_put1, M_ref2, M_kd2, M_ln2, M_get2, M_put2, M_ref3, M_kd3, M_ln3, M_get3, M_put3, M_ref4, M_kd4, M_ln4, M_get4, M_put4, M_ref5, M_kd5, M_ln5, M_get5, M_put5, M_ref6, M_kd6, M_ln6, M_get6, M_put6, M_ref7, M_kd7, M_ln7, M_get7, M_put7, M_ref8, M_kd8, M_ln8, M_get8, M_put8, M_ref9, M_kd9, M_ln9, M_get9, M_put9, M_ref10, M_kd10, M_ln10, M_get10, M_put10, M_ref11, M_kd11, M_ln11, M_get11, M_put11, M_ref12, M_kd12, M_ln12, M_get12, M_put12, M_ref13, M_kd13, M_ln13, M_get13, M_put13, M_ref14, M_kd14, M_ln14, M_get14, M_put14, M_p526, M_g526, M_p527, M_g527, M_p529, M_g529, M_p530, M_g530, M_p531, M_g531, M_p532, M_g532, M_p533, M_g533, M_p534, M_g534, M_p535, M_g535, M_p536, M_g536, M_p537, M_g537, M_p542, M_g542, M_p545, M_g545, M_p546, M_g546, M_p547, M_g547, M_p548, M_g548, M_p550, M_g550, M_hz, M_hs, jL_mul, jL_add, jL_sub, jL_div, jL_rem, jL_of32, jI_of64, jI_add, jI_sub, jI_mul, jI_div, jI_rem, jI_neg, jI_eq, jI_lt, jI_le, jI_eq0, jI_lt0, jI_0lt, jI_le0, jI_0le, forall_eq, true_and, and_true, or_true, true_or, or_false, false_or, and_false, false_and, not_true_eq_false, not_false_eq_true, false_implies, true_implies, implies_true, Int.reduceEq, Int.reduceLT, Int.reduceLE, Int.reduceAdd, Int.reduceSub, Int.reduceMul, Int.reduceNeg, Int.reduceNe, Nat.reduceEqDiff, Nat.reduceAdd, Int.cast_ofNat_Int, ne_eq, ↓reduceIte, sr_eq, sr_sr, sr_ne, up_up, vp_jI]
            refine ⟨fun w => absurd w (by omega), fun _ => ?_⟩
            refine m_valueWith (S := S3) (L := L3) (by omega) (by rw [e3]; exact hr) (by rw [e3]; exact g) (kind := kind) (k := pl) (by omega) (by omega) (fun S4 L4 a4 => ⟨_, rfl, ?_⟩)
            rw [e3]
            have hwb := vw_bd hr g (kind := kind) (k := pl)
            have hat : bmP (S 1) (8 * kind + pl) ↔ vwR (S 1) kind pl = v := by
              rw [hP, show (8 * kind + pl) / 8 = kind by omega, show (8 * kind + pl) % 8 = pl by omega, ← hm]
              exact ⟨fun z => z.2, fun z => ⟨p2, z⟩⟩
            generalize hvw : vwR (S 1) kind pl = vw at *
            simp (disch := omega) only [M_kd, M_ref1, M_kd1, M_ln1, M_get1, M_put1, M_ref2, M_kd2, M_ln2, M_get2, M_put2, M_ref3, M_kd3, M_ln3, M_get3, M_put3, M_ref4, M_kd4, M_ln4, M_get4, M_put4, M_ref5, M_kd5, M_ln5, M_get5, M_put5, M_ref6, M_kd6, M_ln6, M_get6, M_put6, M_ref7, M_kd7, M_ln7, M_get7, M_put7, M_ref8, M_kd8, M_ln8, M_get8, M_put8, M_ref9, M_kd9, M_ln9, M_get9, M_put9, M_ref10, M_kd10, M_ln10, M_get10, M_put10, M_ref11, M_kd11, M_ln11, M_get11, M_put11, M_ref12, M_kd12, M_ln12, M_get12, M_put12, M_ref13, M_kd13, M_ln13, M_get13, M_put13, M_ref14, M_kd14, M_ln14, M_get14, M_put14, M_p526, M_g526, M_p527, M_g527, M_p529, M_g529, M_p530, M_g530, M_p531, M_g531, M_p532, M_g532, M_p533, M_g533, M_p534, M_g534, M_p535, M_g535, M_p536, M_g536, M_p537, M_g537, M_p542, M_g542, M_p545, M_g545, M_p546, M_g546, M_p547, M_g547, M_p548, M_g548, M_p550, M_g550, M_hz, M_hs, jL_mul, jL_add, jL_sub, jL_div, jL_rem, jL_of32, jI_of64, jI_add, jI_sub, jI_mul, jI_div, jI_rem, jI_neg, jI_eq, jI_lt, jI_le, jI_eq0, jI_lt0, jI_0lt, jI_le0, jI_0le, forall_eq, true_and, and_true, or_true, true_or, or_false, false_or, and_false, false_and, not_true_eq_false, not_false_eq_true, false_implies, true_implies, implies_true, Int.reduceEq, Int.reduceLT, Int.reduceLE, Int.reduceAdd, Int.reduceSub, Int.reduceMul, Int.reduceNeg, Int.reduceNe, Nat.reduceEqDiff, Nat.reduceAdd, Int.cast_ofNat_Int, ne_eq, ↓reduceIte, sr_eq, sr_sr, sr_ne, up_up, vp_jI]
            refine ⟨fun w => ih3 S4 L4 (hF3.trans a4) (fun j a b => ?_), fun w => ?_⟩
            · by_cases z : j = 8 * kind + pl
              · subst z; rw [hat]; exact w
              · exact hno3 j a (by omega)
            · have hN := bmN_at (n := 8 * kind + pl) (by omega) (hat.mpr w) hno3
              have hp2 := hp S4 L4 (hF3.trans a4)
              rw [hN, if_neg (show ¬ 8 * kind + pl = -1 by omega), show (8 * kind + pl) / 8 = kind by omega, show (8 * kind + pl) % 8 = pl by omega] at hp2
              refine ⟨fun y => ?_, fun y => ?_⟩
              · rw [if_neg y] at hp2
                refine ⟨fun z => ?_, fun z => ?_⟩
                · rw [if_neg (show ¬ kind < 2 by omega)] at hp2; exact hp2
                · rw [if_pos (show kind < 2 by omega)] at hp2; exact hp2
              · rw [if_pos y] at hp2; exact hp2
        refine b_X7_bestMove_42 C ?_
        simp (disch := omega) only [M_kd, M_ref1, M_kd1, M_ln1, M_get1, M_put1, M_ref2, M_kd2, M_ln2, M_get2, M_put2, M_ref3, M_kd3, M_ln3, M_get3, M_put3, M_ref4, M_kd4, M_ln4, M_get4, M_put4, M_ref5, M_kd5, M_ln5, M_get5, M_put5, M_ref6, M_kd6, M_ln6, M_get6, M_put6, M_ref7, M_kd7, M_ln7, M_get7, M_put7, M_ref8, M_kd8, M_ln8, M_get8, M_put8, M_ref9, M_kd9, M_ln9, M_get9, M_put9, M_ref10, M_kd10, M_ln10, M_get10, M_put10, M_ref11, M_kd11, M_ln11, M_get11, M_put11, M_ref12, M_kd12, M_ln12, M_get12, M_put12, M_ref13, M_kd13, M_ln13, M_get13, M_put13, M_ref14, M_kd14, M_ln14, M_get14, M_put14, M_p526, M_g526, M_p527, M_g527, M_p529, M_g529, M_p530, M_g530, M_p531, M_g531, M_p532, M_g532, M_p533, M_g533, M_p534, M_g534, M_p535, M_g535, M_p536, M_g536, M_p537, M_g537, M_p542, M_g542, M_p545, M_g545, M_p546, M_g546, M_p547, M_g547, M_p548, M_g548, M_p550, M_g550, M_hz, M_hs, jL_mul, jL_add, jL_sub, jL_div, jL_rem, jL_of32, jI_of64, jI_add, jI_sub, jI_mul, jI_div, jI_rem, jI_neg, jI_eq, jI_lt, jI_le, jI_eq0, jI_lt0, jI_0lt, jI_le0, jI_0le, forall_eq, true_and, and_true, or_true, true_or, or_false, false_or, and_false, false_and, not_true_eq_false, not_false_eq_true, false_implies, true_implies, implies_true, Int.reduceEq, Int.reduceLT, Int.reduceLE, Int.reduceAdd, Int.reduceSub, Int.reduceMul, Int.reduceNeg, Int.reduceNe, Nat.reduceEqDiff, Nat.reduceAdd, Int.cast_ofNat_Int, ne_eq, ↓reduceIte, sr_eq, sr_sr, sr_ne, up_up, vp_jI, e1]
        refine ⟨fun w => absurd w (by omega), fun _ => ⟨fun w => inner 1 (by omega) (by omega) (by rw [if_neg (by omega)]), fun w => inner _ hsz.1 hsz.2.1 (by rw [if_pos (show kind < 2 by omega)])⟩⟩
  · rw [ifP_f q, ifP_f q] at hp
    simp (disch := omega) only [M_kd, M_ref1, M_kd1, M_ln1, M_get1, M_put1, M_ref2, M_kd2, M_ln2, M_get2, M_put2, M_ref3, M_kd3, M_ln3, M_get3, M_put3, M_ref4, M_kd4, M_ln4, M_get4, M_put4, M_ref5, M_kd5, M_ln5, M_get5, M_put5, M_ref6, M_kd6, M_ln6, M_get6, M_put6, M_ref7, M_kd7, M_ln7, M_get7, M_put7, M_ref8, M_kd8, M_ln8, M_get8, M_put8, M_ref9, M_kd9, M_ln9, M_get9, M_put9, M_ref10, M_kd10, M_ln10, M_get10, M_put10, M_ref11, M_kd11, M_ln11, M_get11, M_put11, M_ref12, M_kd12, M_ln12, M_get12, M_put12, M_ref13, M_kd13, M_ln13, M_get13, M_put13, M_ref14, M_kd14, M_ln14, M_get14, M_put14, M_p526, M_g526, M_p527, M_g527, M_p529, M_g529, M_p530, M_g530, M_p531, M_g531, M_p532, M_g532, M_p533, M_g533, M_p534, M_g534, M_p535, M_g535, M_p536, M_g536, M_p537, M_g537, M_p542, M_g542, M_p545, M_g545, M_p546, M_g546, M_p547, M_g547, M_p548, M_g548, M_p550, M_g550, M_hz, M_hs, jL_mul, jL_add, jL_sub, jL_div, jL_rem, jL_of32, jI_of64, jI_add, jI_sub, jI_mul, jI_div, jI_rem, jI_neg, jI_eq, jI_lt, jI_le, jI_eq0, jI_lt0, jI_0lt, jI_le0, jI_0le, forall_eq, true_and, and_true, or_true, true_or, or_false, false_or, and_false, false_and, not_true_eq_false, not_false_eq_true, false_implies, true_implies, implies_true, Int.reduceEq, Int.reduceLT, Int.reduceLE, Int.reduceAdd, Int.reduceSub, Int.reduceMul, Int.reduceNeg, Int.reduceNe, Nat.reduceEqDiff, Nat.reduceAdd, Int.cast_ofNat_Int, ne_eq, ↓reduceIte, sr_eq, sr_sr, sr_ne, up_up, vp_jI]
    exact hp _ _ XF.rfl
end TWV
section TWW
variable {G : Wd} {l : Launch} {d : Nat} {post : Option Value → VH → Prop} {xp : Nat → VH → Prop} {h0 h : VH} {m : Nat} {S : Nat → Row} {L : Nat → Int → Int64}
noncomputable def onlyR (s : Int) : Int := fk 8 (fun j => s = 2 ^ j.toNat)
theorem only_bd {s : Int} : -1 ≤ onlyR s ∧ onlyR s < 8 := by
  unfold onlyR
  rcases fk_spec (n := 8) (P := fun j => s = 2 ^ j.toNat) with ⟨h1, _⟩ | ⟨h1, h2, _⟩ <;> omega
theorem m_only (hd : 9 ≤ d) {s : Int} (hs : 0 ≤ s ∧ s < 1024) (hp : post (some (.int (jI (onlyR s)))) h) : D G l d mX7_only [vI (jI s)] h post xp := by
  refine D_in (by omega) rfl rfl fun V XV C => b_X7_only_0 C ?_
  have pw : ∀ i : Int, 0 ≤ i → i < 8 → (1 : Int) ≤ 2 ^ i.toNat ∧ (2 : Int) ^ i.toNat < 1024 := fun i a b => by
    have main : ∀ i : Fin 8, (1 : Int) ≤ 2 ^ (i : Nat) ∧ (2 : Int) ^ (i : Nat) < 1024 := by decide
    exact main ⟨i.toNat, by omega⟩
  unfold onlyR at hp
  rcases fk_spec (n := 8) (P := fun j => s = 2 ^ j.toNat) with ⟨e, h1⟩ | ⟨e1, e2, e3, e4⟩
  · rw [e] at hp
    refine up_loop (P := fun i => V 2 [(0, vI (jI s)), (1, vI (jI i))] [] h) (lo := 0) (hi := 8) (by omega) ?_ ?_
    · refine b_X7_only_2 C ?_
      simp (disch := omega) only [M_kd, M_ref1, M_kd1, M_ln1, M_get1, M_put1, M_ref2, M_kd2, M_ln2, M_get2, M_put2, M_ref3, M_kd3, M_ln3, M_get3, M_put3, M_ref4, M_kd4, M_ln4, M_get4, M_put4, M_ref5, M_kd5, M_ln5, M_get5, M_put5, M_ref6, M_kd6, M_ln6, M_get6, M_put6, M_ref7, M_kd7, M_ln7, M_get7, M_put7, M_ref8, M_kd8, M_ln8, M_get8, M_put8, M_ref9, M_kd9, M_ln9, M_get9, M_put9, M_ref10, M_kd10, M_ln10, M_get10, M_put10, M_ref11, M_kd11, M_ln11, M_get11, M_put11, M_ref12, M_kd12, M_ln12, M_get12, M_put12, M_ref13, M_kd13, M_ln13, M_get13, M_put13, M_ref14, M_kd14, M_ln14, M_get14, M_put14, M_p526, M_g526, M_p527, M_g527, M_p529, M_g529, M_p530, M_g530, M_p531, M_g531, M_p532, M_g532, M_p533, M_g533, M_p534, M_g534, M_p535, M_g535, M_p536, M_g536, M_p537, M_g537, M_p542, M_g542, M_p545, M_g545, M_p546, M_g546, M_p547, M_g547, M_p548, M_g548, M_p550, M_g550, M_hz, M_hs, jL_mul, jL_add, jL_sub, jL_div, jL_rem, jL_of32, jI_of64, jI_add, jI_sub, jI_mul, jI_div, jI_rem, jI_neg, jI_eq, jI_lt, jI_le, jI_eq0, jI_lt0, jI_0lt, jI_le0, jI_0le, forall_eq, true_and, and_true, or_true, true_or, or_false, false_or, and_false, false_and, not_true_eq_false, not_false_eq_true, false_implies, true_implies, implies_true, Int.reduceEq, Int.reduceLT, Int.reduceLE, Int.reduceAdd, Int.reduceSub, Int.reduceMul, Int.reduceNeg, Int.reduceNe, Nat.reduceEqDiff, Nat.reduceAdd, Int.cast_ofNat_Int, ne_eq, ↓reduceIte, sr_eq, sr_sr, sr_ne, up_up, vp_jI]
      exact hp
    · intro i a b ih
      have := pw i a b
      have hne := h1 i a (by omega)
      refine b_X7_only_2 C ?_
      rw [j_pow (by omega)]
      generalize (2 : Int) ^ i.toNat = w at *
      simp (disch := omega) only [M_kd, M_ref1, M_kd1, M_ln1, M_get1, M_put1, M_ref2, M_kd2, M_ln2, M_get2, M_put2, M_ref3, M_kd3, M_ln3, M_get3, M_put3, M_ref4, M_kd4, M_ln4, M_get4, M_put4, M_ref5, M_kd5, M_ln5, M_get5, M_put5, M_ref6, M_kd6, M_ln6, M_get6, M_put6, M_ref7, M_kd7, M_ln7, M_get7, M_put7, M_ref8, M_kd8, M_ln8, M_get8, M_put8, M_ref9, M_kd9, M_ln9, M_get9, M_put9, M_ref10, M_kd10, M_ln10, M_get10, M_put10, M_ref11, M_kd11, M_ln11, M_get11, M_put11, M_ref12, M_kd12, M_ln12, M_get12, M_put12, M_ref13, M_kd13, M_ln13, M_get13, M_put13, M_ref14, M_kd14, M_ln14, M_get14, M_put14, M_p526, M_g526, M_p527, M_g527, M_p529, M_g529, M_p530, M_g530, M_p531, M_g531, M_p532, M_g532, M_p533, M_g533, M_p534, M_g534, M_p535, M_g535, M_p536, M_g536, M_p537, M_g537, M_p542, M_g542, M_p545, M_g545, M_p546, M_g546, M_p547, M_g547, M_p548, M_g548, M_p550, M_g550, M_hz, M_hs, jL_mul, jL_add, jL_sub, jL_div, jL_rem, jL_of32, jI_of64, jI_add, jI_sub, jI_mul, jI_div, jI_rem, jI_neg, jI_eq, jI_lt, jI_le, jI_eq0, jI_lt0, jI_0lt, jI_le0, jI_0le, forall_eq, true_and, and_true, or_true, true_or, or_false, false_or, and_false, false_and, not_true_eq_false, not_false_eq_true, false_implies, true_implies, implies_true, Int.reduceEq, Int.reduceLT, Int.reduceLE, Int.reduceAdd, Int.reduceSub, Int.reduceMul, Int.reduceNeg, Int.reduceNe, Nat.reduceEqDiff, Nat.reduceAdd, Int.cast_ofNat_Int, ne_eq, ↓reduceIte, sr_eq, sr_sr, sr_ne, up_up, vp_jI]
      exact ⟨fun g => absurd g (by omega), fun _ => ⟨fun g => absurd g hne, fun _ => ih⟩⟩
  · generalize fk 8 (fun j => s = 2 ^ j.toNat) = e at *
    refine up_loop (P := fun i => V 2 [(0, vI (jI s)), (1, vI (jI i))] [] h) (lo := 0) (hi := e) (by omega) ?_ ?_
    · have := pw e e1 (by omega)
      refine b_X7_only_2 C ?_
      rw [j_pow (by omega)]
      generalize (2 : Int) ^ e.toNat = w at *
      simp (disch := omega) only [M_kd, M_ref1, M_kd1, M_ln1, M_get1, M_put1, M_ref2, M_kd2, M_ln2, M_get2, M_put2, M_ref3, M_kd3, M_ln3, M_get3, M_put3, M_ref4, M_kd4, M_ln4, M_get4, M_put4, M_ref5, M_kd5, M_ln5, M_get5, M_put5, M_ref6, M_kd6, M_ln6, M_get6, M_put6, M_ref7, M_kd7, M_ln7, M_get7, M_put7, M_ref8, M_kd8, M_ln8, M_get8, M_put8, M_ref9, M_kd9, M_ln9, M_get9, M_put9, M_ref10, M_kd10, M_ln10, M_get10, M_put10, M_ref11, M_kd11, M_ln11, M_get11, M_put11, M_ref12, M_kd12, M_ln12, M_get12, M_put12, M_ref13, M_kd13, M_ln13, M_get13, M_put13, M_ref14, M_kd14, M_ln14, M_get14, M_put14, M_p526, M_g526, M_p527, M_g527, M_p529, M_g529, M_p530, M_g530, M_p531, M_g531, M_p532, M_g532, M_p533, M_g533, M_p534, M_g534, M_p535, M_g535, M_p536, M_g536, M_p537, M_g537, M_p542, M_g542, M_p545, M_g545, M_p546, M_g546, M_p547, M_g547, M_p548, M_g548, M_p550, M_g550, M_hz, M_hs, jL_mul, jL_add, jL_sub, jL_div, jL_rem, jL_of32, jI_of64, jI_add, jI_sub, jI_mul, jI_div, jI_rem, jI_neg, jI_eq, jI_lt, jI_le, jI_eq0, jI_lt0, jI_0lt, jI_le0, jI_0le, forall_eq, true_and, and_true, or_true, true_or, or_false, false_or, and_false, false_and, not_true_eq_false, not_false_eq_true, false_implies, true_implies, implies_true, Int.reduceEq, Int.reduceLT, Int.reduceLE, Int.reduceAdd, Int.reduceSub, Int.reduceMul, Int.reduceNeg, Int.reduceNe, Nat.reduceEqDiff, Nat.reduceAdd, Int.cast_ofNat_Int, ne_eq, ↓reduceIte, sr_eq, sr_sr, sr_ne, up_up, vp_jI]
      exact ⟨fun g => absurd g (by omega), fun _ => ⟨fun g => ⟨fun g2 => hp, fun g2 => absurd g2 (by omega)⟩, fun g => absurd e3 g⟩⟩
    · intro i a b ih
      have := pw i a (by omega)
      have hne := e4 i a b
      refine b_X7_only_2 C ?_
      rw [j_pow (by omega)]
      generalize (2 : Int) ^ i.toNat = w at *
      simp (disch := omega) only [M_kd, M_ref1, M_kd1, M_ln1, M_get1, M_put1, M_ref2, M_kd2, M_ln2, M_get2, M_put2, M_ref3, M_kd3, M_ln3, M_get3, M_put3, M_ref4, M_kd4, M_ln4, M_get4, M_put4, M_ref5, M_kd5, M_ln5, M_get5, M_put5, M_ref6, M_kd6, M_ln6, M_get6, M_put6, M_ref7, M_kd7, M_ln7, M_get7, M_put7, M_ref8, M_kd8, M_ln8, M_get8, M_put8, M_ref9, M_kd9, M_ln9, M_get9, M_put9, M_ref10, M_kd10, M_ln10, M_get10, M_put10, M_ref11, M_kd11, M_ln11, M_get11, M_put11, M_ref12, M_kd12, M_ln12, M_get12, M_put12, M_ref13, M_kd13, M_ln13, M_get13, M_put13, M_ref14, M_kd14, M_ln14, M_get14, M_put14, M_p526, M_g526, M_p527, M_g527, M_p529, M_g529, M_p530, M_g530, M_p531, M_g531, M_p532, M_g532, M_p533, M_g533, M_p534, M_g534, M_p535, M_g535, M_p536, M_g536, M_p537, M_g537, M_p542, M_g542, M_p545, M_g545, M_p546, M_g546, M_p547, M_g547, M_p548, M_g548, M_p550, M_g550, M_hz, M_hs, jL_mul, jL_add, jL_sub, jL_div, jL_rem, jL_of32, jI_of64, jI_add, jI_sub, jI_mul, jI_div, jI_rem, jI_neg, jI_eq, jI_lt, jI_le, jI_eq0, jI_lt0, jI_0lt, jI_le0, jI_0le, forall_eq, true_and, and_true, or_true, true_or, or_false, false_or, and_false, false_and, not_true_eq_false, not_false_eq_true, false_implies, true_implies, implies_true, Int.reduceEq, Int.reduceLT, Int.reduceLE, Int.reduceAdd, Int.reduceSub, Int.reduceMul, Int.reduceNeg, Int.reduceNe, Nat.reduceEqDiff, Nat.reduceAdd, Int.cast_ofNat_Int, ne_eq, ↓reduceIte, sr_eq, sr_sr, sr_ne, up_up, vp_jI]
      exact ⟨fun g => absurd g (by omega), fun _ => ⟨fun g => absurd g hne, fun _ => ih⟩⟩
theorem m_puts (hd : 9 ≤ d) {c : Int} (hc : 0 ≤ c ∧ c < 128) (hn : 0 ≤ S 0 550 ∧ S 0 550 < 20) (hp : post none (MH h0 m (sr (sr S 0 (up (S 0) 550 (S 0 550 + 1))) 14 (up (S 14) (S 0 550) c)) L)) : D G l d mX7_puts [vR m, vI (jI c)] (MH h0 m S L) post xp := by
  have hb : ji2b (jI c) = jI c := by
    have := j_i2b (v := c) (by omega)
    unfold sgnB at this
    rw [if_pos (by omega)] at this
    exact this
  refine t_X7_puts (by omega) ?_
  rw [vp_byte, hb, hb]
  simp (disch := omega) only [M_kd, M_ref1, M_kd1, M_ln1, M_get1, M_put1, M_ref2, M_kd2, M_ln2, M_get2, M_put2, M_ref3, M_kd3, M_ln3, M_get3, M_put3, M_ref4, M_kd4, M_ln4, M_get4, M_put4, M_ref5, M_kd5, M_ln5, M_get5, M_put5, M_ref6, M_kd6, M_ln6, M_get6, M_put6, M_ref7, M_kd7, M_ln7, M_get7, M_put7, M_ref8, M_kd8, M_ln8, M_get8, M_put8, M_ref9, M_kd9, M_ln9, M_get9, M_put9, M_ref10, M_kd10, M_ln10, M_get10, M_put10, M_ref11, M_kd11, M_ln11, M_get11, M_put11, M_ref12, M_kd12, M_ln12, M_get12, M_put12, M_ref13, M_kd13, M_ln13, M_get13, M_put13, M_ref14, M_kd14, M_ln14, M_get14, M_put14, M_p526, M_g526, M_p527, M_g527, M_p529, M_g529, M_p530, M_g530, M_p531, M_g531, M_p532, M_g532, M_p533, M_g533, M_p534, M_g534, M_p535, M_g535, M_p536, M_g536, M_p537, M_g537, M_p542, M_g542, M_p545, M_g545, M_p546, M_g546, M_p547, M_g547, M_p548, M_g548, M_p550, M_g550, M_hz, M_hs, jL_mul, jL_add, jL_sub, jL_div, jL_rem, jL_of32, jI_of64, jI_add, jI_sub, jI_mul, jI_div, jI_rem, jI_neg, jI_eq, jI_lt, jI_le, jI_eq0, jI_lt0, jI_0lt, jI_le0, jI_0le, forall_eq, true_and, and_true, or_true, true_or, or_false, false_or, and_false, false_and, not_true_eq_false, not_false_eq_true, false_implies, true_implies, implies_true, Int.reduceEq, Int.reduceLT, Int.reduceLE, Int.reduceAdd, Int.reduceSub, Int.reduceMul, Int.reduceNeg, Int.reduceNe, Nat.reduceEqDiff, Nat.reduceAdd, Int.cast_ofNat_Int, ne_eq, ↓reduceIte, sr_eq, sr_sr, sr_ne, up_up, vp_jI, sr_lt]
  exact hp
/-- what the hand of p looks like -/
noncomputable def cchR (r : Row) (p : Int) (seen : Prop) (k : Int) : Int :=
  let o := ifP seen (colR (r (27 + r (191 + 5 * p + k)))) (onlyR (r (67 + r (191 + 5 * p + k))))
  if o = -1 then 63 else 97 + o
noncomputable def rchR (r : Row) (p : Int) (seen : Prop) (k : Int) : Int :=
  let o := ifP seen (rnkR (r (27 + r (191 + 5 * p + k))) - 1) (onlyR (r (107 + r (191 + 5 * p + k))))
  if o = -1 then 63 else 49 + o
noncomputable def whB (r : Row) (p : Int) (seen : Prop) (j : Int) : Int := if j % 3 = 0 then cchR r p seen (j / 3) else if j % 3 = 1 then rchR r p seen (j / 3) else 32
def whN (k : Int) : Int := if k = 0 then 0 else 3 * k - 1
def WS (S S2 : Nat → Row) (B : Row) (n : Int) : Prop := S2 0 = up (up (S 0) 527 0) 550 n ∧ (∀ k, k ≠ 0 → k ≠ 14 → S2 k = S k) ∧ ∀ j, 0 ≤ j → j < n → S2 14 j = B j
theorem m_putsW (hd : 9 ≤ d) {S1 : Nat → Row} {B : Row} {n c : Int} (hn : 0 ≤ n ∧ n < 20) (hW : WS S S1 B n) (hc : 0 ≤ c ∧ c < 128) (hB : c = B n) (hp : ∀ S2, WS S S2 B (n + 1) → post none (MH h0 m S2 L)) : D G l d mX7_puts [vR m, vI (jI c)] (MH h0 m S1 L) post xp := by
  obtain ⟨e0, eo, eb⟩ := hW
  have h550 : S1 0 550 = n := by rw [e0, up_eq]
  refine m_puts hd hc (by omega) ?_
  rw [h550]
  refine hp _ ⟨?_, fun k a b => by rw [sr_ne b, sr_ne a]; exact eo k a b, fun j a b => ?_⟩
  · rw [sr_ne (by omega), sr_eq, e0, up_up]
  · rw [sr_eq]
    by_cases g : j = n
    · subst g; rw [up_eq]; exact hB
    · rw [up_ne g]; exact eb j a (by omega)
theorem m_writeHand (hd : 11 ≤ d) (hr : GI (S 1)) {p : Int} (hpp : -2147483648 ≤ p ∧ p < 2147483648) {sv : Int32} (h1 : ¬ (0 ≤ p ∧ p < S 1 2) → post (some (.int (jI 0))) (MH h0 m (sr S 0 (up (S 0) 527 1)) L)) (h2 : (0 ≤ p ∧ p < S 1 2) → ∀ S', WS S S' (whB (S 1) p (¬ sv = 0)) (whN (S 1 (187 + p))) → post (some (.int (jI (whN (S 1 (187 + p)))))) (MH h0 m S' L)) : D G l d mX7_writeHand [vR m, vI (jI p), vI sv] (MH h0 m S L) post xp := by
  obtain ⟨hcb, -, -, -, -, hrs, -, hsz, hhd, -⟩ := id hr.1
  have hK := hr.1.rk
  refine D_in (by omega) rfl rfl fun V XV C => b_X7_writeHand_0 C ⟨M_kd, ?_⟩
  refine m_isPlayer (by omega) hpp hcb.2.2.1 (fun q => ⟨_, rfl, M_kd, m_isThrown1 (by omega) rfl ⟨_, rfl, ?_⟩⟩) (fun q => ⟨_, rfl, M_kd, m_isThrown0 (by omega) rfl ⟨_, rfl, ?_⟩⟩)
  · replace h2 := h2 q
    have hsp := hsz p q.1 (by omega)
    simp (disch := omega) only [M_kd, M_ref1, M_kd1, M_ln1, M_get1, M_put1, M_ref2, M_kd2, M_ln2, M_get2, M_put2, M_ref3, M_kd3, M_ln3, M_get3, M_put3, M_ref4, M_kd4, M_ln4, M_get4, M_put4, M_ref5, M_kd5, M_ln5, M_get5, M_put5, M_ref6, M_kd6, M_ln6, M_get6, M_put6, M_ref7, M_kd7, M_ln7, M_get7, M_put7, M_ref8, M_kd8, M_ln8, M_get8, M_put8, M_ref9, M_kd9, M_ln9, M_get9, M_put9, M_ref10, M_kd10, M_ln10, M_get10, M_put10, M_ref11, M_kd11, M_ln11, M_get11, M_put11, M_ref12, M_kd12, M_ln12, M_get12, M_put12, M_ref13, M_kd13, M_ln13, M_get13, M_put13, M_ref14, M_kd14, M_ln14, M_get14, M_put14, M_p526, M_g526, M_p527, M_g527, M_p529, M_g529, M_p530, M_g530, M_p531, M_g531, M_p532, M_g532, M_p533, M_g533, M_p534, M_g534, M_p535, M_g535, M_p536, M_g536, M_p537, M_g537, M_p542, M_g542, M_p545, M_g545, M_p546, M_g546, M_p547, M_g547, M_p548, M_g548, M_p550, M_g550, M_hz, M_hs, jL_mul, jL_add, jL_sub, jL_div, jL_rem, jL_of32, jI_of64, jI_add, jI_sub, jI_mul, jI_div, jI_rem, jI_neg, jI_eq, jI_lt, jI_le, jI_eq0, jI_lt0, jI_0lt, jI_le0, jI_0le, forall_eq, true_and, and_true, or_true, true_or, or_false, false_or, and_false, false_and, not_true_eq_false, not_false_eq_true, false_implies, true_implies, implies_true, Int.reduceEq, Int.reduceLT, Int.reduceLE, Int.reduceAdd, Int.reduceSub, Int.reduceMul, Int.reduceNeg, Int.reduceNe, Nat.reduceEqDiff, Nat.reduceAdd, Int.cast_ofNat_Int, ne_eq, ↓reduceIte, sr_eq, sr_sr, sr_ne, up_up, vp_jI]
    refine up_loop (P := fun k => ∀ S1 : Nat → Row, WS S S1 (whB (S 1) p (¬ sv = 0)) (whN k) → V 22 [(0, vR m), (1, vI (jI p)), (2, vI sv), (3, vI (jI k))] [] (MH h0 m S1 L)) (lo := 0) (hi := S 1 (187 + p)) hsp.1 ?_ ?_ _ ⟨by rw [sr_eq]; rfl, fun k a b => sr_ne a, fun j a b => by unfold whN at b; rw [if_pos rfl] at b; omega⟩
    · intro S1 hW
      have e1 : S1 1 = S 1 := hW.2.1 1 (by omega) (by omega)
      have h550 : S1 0 550 = whN (S 1 (187 + p)) := by rw [hW.1, up_eq]
      refine b_X7_writeHand_22 C ?_
      simp (disch := omega) only [M_kd, M_ref1, M_kd1, M_ln1, M_get1, M_put1, M_ref2, M_kd2, M_ln2, M_get2, M_put2, M_ref3, M_kd3, M_ln3, M_get3, M_put3, M_ref4, M_kd4, M_ln4, M_get4, M_put4, M_ref5, M_kd5, M_ln5, M_get5, M_put5, M_ref6, M_kd6, M_ln6, M_get6, M_put6, M_ref7, M_kd7, M_ln7, M_get7, M_put7, M_ref8, M_kd8, M_ln8, M_get8, M_put8, M_ref9, M_kd9, M_ln9, M_get9, M_put9, M_ref10, M_kd10, M_ln10, M_get10, M_put10, M_ref11, M_kd11, M_ln11, M_get11, M_put11, M_ref12, M_kd12, M_ln12, M_get12, M_put12, M_ref13, M_kd13, M_ln13, M_get13, M_put13, M_ref14, M_kd14, M_ln14, M_get14, M_put14, M_p526, M_g526, M_p527, M_g527, M_p529, M_g529, M_p530, M_g530, M_p531, M_g531, M_p532, M_g532, M_p533, M_g533, M_p534, M_g534, M_p535, M_g535, M_p536, M_g536, M_p537, M_g537, M_p542, M_g542, M_p545, M_g545, M_p546, M_g546, M_p547, M_g547, M_p548, M_g548, M_p550, M_g550, M_hz, M_hs, jL_mul, jL_add, jL_sub, jL_div, jL_rem, jL_of32, jI_of64, jI_add, jI_sub, jI_mul, jI_div, jI_rem, jI_neg, jI_eq, jI_lt, jI_le, jI_eq0, jI_lt0, jI_0lt, jI_le0, jI_0le, forall_eq, true_and, and_true, or_true, true_or, or_false, false_or, and_false, false_and, not_true_eq_false, not_false_eq_true, false_implies, true_implies, implies_true, Int.reduceEq, Int.reduceLT, Int.reduceLE, Int.reduceAdd, Int.reduceSub, Int.reduceMul, Int.reduceNeg, Int.reduceNe, Nat.reduceEqDiff, Nat.reduceAdd, Int.cast_ofNat_Int, ne_eq, ↓reduceIte, sr_eq, sr_sr, sr_ne, up_up, vp_jI, e1, h550, Int.le_refl]
      exact h2 S1 hW
    · intro k a b ih S1 hW
      have e1 : S1 1 = S 1 := hW.2.1 1 (by omega) (by omega)
      have hhk := hhd p k q.1 (by omega) a (by omega)
      have hkk := hK.2.2.2.2.1 (S 1 (191 + 5 * p + k)) hhk.1 hhk.2
      have hcb := col_bd hkk
      have hrb := rnk_bd hkk
      have hss := hrs (S 1 (191 + 5 * p + k)) hhk.1 hhk.2
      have hb0 : whB (S 1) p (¬ sv = 0) (3 * k) = cchR (S 1) p (¬ sv = 0) k := by
        unfold whB; rw [if_pos (show 3 * k % 3 = 0 by omega), show 3 * k / 3 = k by omega]
      have hb1 : whB (S 1) p (¬ sv = 0) (3 * k + 1) = rchR (S 1) p (¬ sv = 0) k := by
        unfold whB; rw [if_neg (show ¬ (3 * k + 1) % 3 = 0 by omega), if_pos (show (3 * k + 1) % 3 = 1 by omega), show (3 * k + 1) / 3 = k by omega]
      have stB : ∀ o1 o2 : Int, (-1 ≤ o1 ∧ o1 ≤ 8) → (-1 ≤ o2 ∧ o2 ≤ 8) → cchR (S 1) p (¬ sv = 0) k = (if o1 = -1 then 63 else 97 + o1) → rchR (S 1) p (¬ sv = 0) k = (if o2 = -1 then 63 else 49 + o2) → V 114 [(0, vR m), (1, vI (jI p)), (2, vI sv), (3, vI (jI k)), (5, vI (jI o1))] [.int (jI o2)] (MH h0 m S1 L) := by
        intro o1 o2 ho1 ho2 hc1 hc2
        have s163 : ∀ (c : Int) (S2 : Nat → Row), WS S S2 (whB (S 1) p (¬ sv = 0)) (3 * k + 1) → (0 ≤ c ∧ c < 128) → c = rchR (S 1) p (¬ sv = 0) k → V 163 [(0, vR m), (1, vI (jI p)), (2, vI sv), (3, vI (jI k))] [.int (jI c), vr m] (MH h0 m S2 L) := by
          intro c S2 h3 hcc hce
          refine b_X7_writeHand_163 C ⟨M_kd, ?_⟩
          refine m_putsW (by omega) (by omega) h3 hcc (by rw [hb1]; exact hce) (fun S3 h4 => ⟨rfl, ?_⟩)
          simp (disch := omega) only [M_kd, M_ref1, M_kd1, M_ln1, M_get1, M_put1, M_ref2, M_kd2, M_ln2, M_get2, M_put2, M_ref3, M_kd3, M_ln3, M_get3, M_put3, M_ref4, M_kd4, M_ln4, M_get4, M_put4, M_ref5, M_kd5, M_ln5, M_get5, M_put5, M_ref6, M_kd6, M_ln6, M_get6, M_put6, M_ref7, M_kd7, M_ln7, M_get7, M_put7, M_ref8, M_kd8, M_ln8, M_get8, M_put8, M_ref9, M_kd9, M_ln9, M_get9, M_put9, M_ref10, M_kd10, M_ln10, M_get10, M_put10, M_ref11, M_kd11, M_ln11, M_get11, M_put11, M_ref12, M_kd12, M_ln12, M_get12, M_put12, M_ref13, M_kd13, M_ln13, M_get13, M_put13, M_ref14, M_kd14, M_ln14, M_get14, M_put14, M_p526, M_g526, M_p527, M_g527, M_p529, M_g529, M_p530, M_g530, M_p531, M_g531, M_p532, M_g532, M_p533, M_g533, M_p534, M_g534, M_p535, M_g535, M_p536, M_g536, M_p537, M_g537, M_p542, M_g542, M_p545, M_g545, M_p546, M_g546, M_p547, M_g547, M_p548, M_g548, M_p550, M_g550, M_hz, M_hs, jL_mul, jL_add, jL_sub, jL_div, jL_rem, jL_of32, jI_of64, jI_add, jI_sub, jI_mul, jI_div, jI_rem, jI_neg, jI_eq, jI_lt, jI_le, jI_eq0, jI_lt0, jI_0lt, jI_le0, jI_0le, forall_eq, true_and, and_true, or_true, true_or, or_false, false_or, and_false, false_and, not_true_eq_false, not_false_eq_true, false_implies, true_implies, implies_true, Int.reduceEq, Int.reduceLT, Int.reduceLE, Int.reduceAdd, Int.reduceSub, Int.reduceMul, Int.reduceNeg, Int.reduceNe, Nat.reduceEqDiff, Nat.reduceAdd, Int.cast_ofNat_Int, ne_eq, ↓reduceIte, sr_eq, sr_sr, sr_ne, up_up, vp_jI]
          refine ih S3 ?_
          have e : whN (k + 1) = 3 * k + 1 + 1 := by unfold whN; rw [if_neg (by omega)]; omega
          rw [e]; exact h4
        have s143 : ∀ (c : Int) (S2 : Nat → Row), WS S S2 (whB (S 1) p (¬ sv = 0)) (3 * k) → (0 ≤ c ∧ c < 128) → c = cchR (S 1) p (¬ sv = 0) k → V 143 [(0, vR m), (1, vI (jI p)), (2, vI sv), (3, vI (jI k)), (6, vI (jI o2))] [.int (jI c), vr m] (MH h0 m S2 L) := by
          intro c S2 h3 hcc hce
          refine b_X7_writeHand_143 C ⟨M_kd, ?_⟩
          refine m_putsW (by omega) (by omega) h3 hcc (by rw [hb0]; exact hce) (fun S3 h4 => ⟨rfl, ?_⟩)
          simp (disch := omega) only [M_kd, M_ref1, M_kd1, M_ln1, M_get1, M_put1, M_ref2, M_kd2, M_ln2, M_get2, M_put2, M_ref3, M_kd3, M_ln3, M_get3, M_put3, M_ref4, M_kd4, M_ln4, M_get4, M_put4, M_ref5, M_kd5, M_ln5, M_get5, M_put5, M_ref6, M_kd6, M_ln6, M_get6, M_put6, M_ref7, M_kd7, M_ln7, M_get7, M_put7, M_ref8, M_kd8, M_ln8, M_get8, M_put8, M_ref9, M_kd9, M_ln9, M_get9, M_put9, M_ref10, M_kd10, M_ln10, M_get10, M_put10, M_ref11, M_kd11, M_ln11, M_get11, M_put11, M_ref12, M_kd12, M_ln12, M_get12, M_put12, M_ref13, M_kd13, M_ln13, M_get13, M_put13, M_ref14, M_kd14, M_ln14, M_get14, M_put14, M_p526, M_g526, M_p527, M_g527, M_p529, M_g529, M_p530, M_g530, M_p531, M_g531, M_p532, M_g532, M_p533, M_g533, M_p534, M_g534, M_p535, M_g535, M_p536, M_g536, M_p537, M_g537, M_p542, M_g542, M_p545, M_g545, M_p546, M_g546, M_p547, M_g547, M_p548, M_g548, M_p550, M_g550, M_hz, M_hs, jL_mul, jL_add, jL_sub, jL_div, jL_rem, jL_of32, jI_of64, jI_add, jI_sub, jI_mul, jI_div, jI_rem, jI_neg, jI_eq, jI_lt, jI_le, jI_eq0, jI_lt0, jI_0lt, jI_le0, jI_0le, forall_eq, true_and, and_true, or_true, true_or, or_false, false_or, and_false, false_and, not_true_eq_false, not_false_eq_true, false_implies, true_implies, implies_true, Int.reduceEq, Int.reduceLT, Int.reduceLE, Int.reduceAdd, Int.reduceSub, Int.reduceMul, Int.reduceNeg, Int.reduceNe, Nat.reduceEqDiff, Nat.reduceAdd, Int.cast_ofNat_Int, ne_eq, ↓reduceIte, sr_eq, sr_sr, sr_ne, up_up, vp_jI]
          refine ⟨fun g => ?_, fun g => ?_⟩
          · rw [if_neg g] at hc2
            exact s163 _ S3 h4 (by omega) hc2.symm
          · rw [if_pos g] at hc2
            exact s163 _ S3 h4 (by omega) hc2.symm
        have s126 : ∀ S2 : Nat → Row, WS S S2 (whB (S 1) p (¬ sv = 0)) (3 * k) → V 126 [(0, vR m), (1, vI (jI p)), (2, vI sv), (3, vI (jI k)), (5, vI (jI o1)), (6, vI (jI o2))] [] (MH h0 m S2 L) := by
          intro S2 h3
          refine b_X7_writeHand_126 C ?_
          simp (disch := omega) only [M_kd, M_ref1, M_kd1, M_ln1, M_get1, M_put1, M_ref2, M_kd2, M_ln2, M_get2, M_put2, M_ref3, M_kd3, M_ln3, M_get3, M_put3, M_ref4, M_kd4, M_ln4, M_get4, M_put4, M_ref5, M_kd5, M_ln5, M_get5, M_put5, M_ref6, M_kd6, M_ln6, M_get6, M_put6, M_ref7, M_kd7, M_ln7, M_get7, M_put7, M_ref8, M_kd8, M_ln8, M_get8, M_put8, M_ref9, M_kd9, M_ln9, M_get9, M_put9, M_ref10, M_kd10, M_ln10, M_get10, M_put10, M_ref11, M_kd11, M_ln11, M_get11, M_put11, M_ref12, M_kd12, M_ln12, M_get12, M_put12, M_ref13, M_kd13, M_ln13, M_get13, M_put13, M_ref14, M_kd14, M_ln14, M_get14, M_put14, M_p526, M_g526, M_p527, M_g527, M_p529, M_g529, M_p530, M_g530, M_p531, M_g531, M_p532, M_g532, M_p533, M_g533, M_p534, M_g534, M_p535, M_g535, M_p536, M_g536, M_p537, M_g537, M_p542, M_g542, M_p545, M_g545, M_p546, M_g546, M_p547, M_g547, M_p548, M_g548, M_p550, M_g550, M_hz, M_hs, jL_mul, jL_add, jL_sub, jL_div, jL_rem, jL_of32, jI_of64, jI_add, jI_sub, jI_mul, jI_div, jI_rem, jI_neg, jI_eq, jI_lt, jI_le, jI_eq0, jI_lt0, jI_0lt, jI_le0, jI_0le, forall_eq, true_and, and_true, or_true, true_or, or_false, false_or, and_false, false_and, not_true_eq_false, not_false_eq_true, false_implies, true_implies, implies_true, Int.reduceEq, Int.reduceLT, Int.reduceLE, Int.reduceAdd, Int.reduceSub, Int.reduceMul, Int.reduceNeg, Int.reduceNe, Nat.reduceEqDiff, Nat.reduceAdd, Int.cast_ofNat_Int, ne_eq, ↓reduceIte, sr_eq, sr_sr, sr_ne, up_up, vp_jI]
          refine ⟨fun g => ?_, fun g => ?_⟩
          · rw [if_neg g] at hc1
            exact s143 _ S2 h3 (by omega) hc1.symm
          · rw [if_pos g] at hc1
            exact s143 _ S2 h3 (by omega) hc1.symm
        refine b_X7_writeHand_114 C ?_
        simp (disch := omega) only [M_kd, M_ref1, M_kd1, M_ln1, M_get1, M_put1, M_ref2, M_kd2, M_ln2, M_get2, M_put2, M_ref3, M_kd3, M_ln3, M_get3, M_put3, M_ref4, M_kd4, M_ln4, M_get4, M_put4, M_ref5, M_kd5, M_ln5, M_get5, M_put5, M_ref6, M_kd6, M_ln6, M_get6, M_put6, M_ref7, M_kd7, M_ln7, M_get7, M_put7, M_ref8, M_kd8, M_ln8, M_get8, M_put8, M_ref9, M_kd9, M_ln9, M_get9, M_put9, M_ref10, M_kd10, M_ln10, M_get10, M_put10, M_ref11, M_kd11, M_ln11, M_get11, M_put11, M_ref12, M_kd12, M_ln12, M_get12, M_put12, M_ref13, M_kd13, M_ln13, M_get13, M_put13, M_ref14, M_kd14, M_ln14, M_get14, M_put14, M_p526, M_g526, M_p527, M_g527, M_p529, M_g529, M_p530, M_g530, M_p531, M_g531, M_p532, M_g532, M_p533, M_g533, M_p534, M_g534, M_p535, M_g535, M_p536, M_g536, M_p537, M_g537, M_p542, M_g542, M_p545, M_g545, M_p546, M_g546, M_p547, M_g547, M_p548, M_g548, M_p550, M_g550, M_hz, M_hs, jL_mul, jL_add, jL_sub, jL_div, jL_rem, jL_of32, jI_of64, jI_add, jI_sub, jI_mul, jI_div, jI_rem, jI_neg, jI_eq, jI_lt, jI_le, jI_eq0, jI_lt0, jI_0lt, jI_le0, jI_0le, forall_eq, true_and, and_true, or_true, true_or, or_false, false_or, and_false, false_and, not_true_eq_false, not_false_eq_true, false_implies, true_implies, implies_true, Int.reduceEq, Int.reduceLT, Int.reduceLE, Int.reduceAdd, Int.reduceSub, Int.reduceMul, Int.reduceNeg, Int.reduceNe, Nat.reduceEqDiff, Nat.reduceAdd, Int.cast_ofNat_Int, ne_eq, ↓reduceIte, sr_eq, sr_sr, sr_ne, up_up, vp_jI]
        refine ⟨fun g => s126 S1 ?_, fun g => ?_⟩
        · have : k = 0 := by omega
          subst this
          exact hW
        · have e : whN k = 3 * k - 1 := by unfold whN; rw [if_neg (by omega)]
          rw [e] at hW
          refine m_putsW (by omega) (by omega) hW (by omega) ?_ (fun S3 h4 => ⟨rfl, s126 S3 ?_⟩)
          · unfold whB; rw [if_neg (by omega), if_neg (by omega)]
          · rw [show 3 * k - 1 + 1 = 3 * k by omega] at h4; exact h4
      have stA : ∀ o1 : Int, (-1 ≤ o1 ∧ o1 ≤ 8) → cchR (S 1) p (¬ sv = 0) k = (if o1 = -1 then 63 else 97 + o1) → V 77 [(0, vR m), (1, vI (jI p)), (2, vI sv), (3, vI (jI k)), (4, vI (jI (S 1 (191 + 5 * p + k))))] [.int (jI o1)] (MH h0 m S1 L) := by
        intro o1 ho1 hc1
        refine b_X7_writeHand_77 C ⟨fun g => ?_, fun g => ?_⟩
        · simp (disch := omega) only [M_kd, M_ref1, M_kd1, M_ln1, M_get1, M_put1, M_ref2, M_kd2, M_ln2, M_get2, M_put2, M_ref3, M_kd3, M_ln3, M_get3, M_put3, M_ref4, M_kd4, M_ln4, M_get4, M_put4, M_ref5, M_kd5, M_ln5, M_get5, M_put5, M_ref6, M_kd6, M_ln6, M_get6, M_put6, M_ref7, M_kd7, M_ln7, M_get7, M_put7, M_ref8, M_kd8, M_ln8, M_get8, M_put8, M_ref9, M_kd9, M_ln9, M_get9, M_put9, M_ref10, M_kd10, M_ln10, M_get10, M_put10, M_ref11, M_kd11, M_ln11, M_get11, M_put11, M_ref12, M_kd12, M_ln12, M_get12, M_put12, M_ref13, M_kd13, M_ln13, M_get13, M_put13, M_ref14, M_kd14, M_ln14, M_get14, M_put14, M_p526, M_g526, M_p527, M_g527, M_p529, M_g529, M_p530, M_g530, M_p531, M_g531, M_p532, M_g532, M_p533, M_g533, M_p534, M_g534, M_p535, M_g535, M_p536, M_g536, M_p537, M_g537, M_p542, M_g542, M_p545, M_g545, M_p546, M_g546, M_p547, M_g547, M_p548, M_g548, M_p550, M_g550, M_hz, M_hs, jL_mul, jL_add, jL_sub, jL_div, jL_rem, jL_of32, jI_of64, jI_add, jI_sub, jI_mul, jI_div, jI_rem, jI_neg, jI_eq, jI_lt, jI_le, jI_eq0, jI_lt0, jI_0lt, jI_le0, jI_0le, forall_eq, true_and, and_true, or_true, true_or, or_false, false_or, and_false, false_and, not_true_eq_false, not_false_eq_true, false_implies, true_implies, implies_true, Int.reduceEq, Int.reduceLT, Int.reduceLE, Int.reduceAdd, Int.reduceSub, Int.reduceMul, Int.reduceNeg, Int.reduceNe, Nat.reduceEqDiff, Nat.reduceAdd, Int.cast_ofNat_Int, ne_eq, ↓reduceIte, sr_eq, sr_sr, sr_ne, up_up, vp_jI, e1]
          refine m_only (by omega) (by omega) ⟨_, rfl, ?_⟩
          have hob := only_bd (s := S 1 (107 + S 1 (191 + 5 * p + k)))
          refine stB _ _ ho1 (by omega) hc1 ?_
          unfold rchR; rw [ifP_f (fun w => w g)]
        · simp (disch := omega) only [M_kd, M_ref1, M_kd1, M_ln1, M_get1, M_put1, M_ref2, M_kd2, M_ln2, M_get2, M_put2, M_ref3, M_kd3, M_ln3, M_get3, M_put3, M_ref4, M_kd4, M_ln4, M_get4, M_put4, M_ref5, M_kd5, M_ln5, M_get5, M_put5, M_ref6, M_kd6, M_ln6, M_get6, M_put6, M_ref7, M_kd7, M_ln7, M_get7, M_put7, M_ref8, M_kd8, M_ln8, M_get8, M_put8, M_ref9, M_kd9, M_ln9, M_get9, M_put9, M_ref10, M_kd10, M_ln10, M_get10, M_put10, M_ref11, M_kd11, M_ln11, M_get11, M_put11, M_ref12, M_kd12, M_ln12, M_get12, M_put12, M_ref13, M_kd13, M_ln13, M_get13, M_put13, M_ref14, M_kd14, M_ln14, M_get14, M_put14, M_p526, M_g526, M_p527, M_g527, M_p529, M_g529, M_p530, M_g530, M_p531, M_g531, M_p532, M_g532, M_p533, M_g533, M_p534, M_g534, M_p535, M_g535, M_p536, M_g536, M_p537, M_g537, M_p542, M_g542, M_p545, M_g545, M_p546, M_g546, M_p547, M_g547, M_p548, M_g548, M_p550, M_g550, M_hz, M_hs, jL_mul, jL_add, jL_sub, jL_div, jL_rem, jL_of32, jI_of64, jI_add, jI_sub, jI_mul, jI_div, jI_rem, jI_neg, jI_eq, jI_lt, jI_le, jI_eq0, jI_lt0, jI_0lt, jI_le0, jI_0le, forall_eq, true_and, and_true, or_true, true_or, or_false, false_or, and_false, false_and, not_true_eq_false, not_false_eq_true, false_implies, true_implies, implies_true, Int.reduceEq, Int.reduceLT, Int.reduceLE, Int.reduceAdd, Int.reduceSub, Int.reduceMul, Int.reduceNeg, Int.reduceNe, Nat.reduceEqDiff, Nat.reduceAdd, Int.cast_ofNat_Int, ne_eq, ↓reduceIte, sr_eq, sr_sr, sr_ne, up_up, vp_jI, e1]
          refine m_rankOf (by omega) hkk.1 (by omega) ⟨_, rfl, ?_⟩
          simp (disch := omega) only [M_kd, M_ref1, M_kd1, M_ln1, M_get1, M_put1, M_ref2, M_kd2, M_ln2, M_get2, M_put2, M_ref3, M_kd3, M_ln3, M_get3, M_put3, M_ref4, M_kd4, M_ln4, M_get4, M_put4, M_ref5, M_kd5, M_ln5, M_get5, M_put5, M_ref6, M_kd6, M_ln6, M_get6, M_put6, M_ref7, M_kd7, M_ln7, M_get7, M_put7, M_ref8, M_kd8, M_ln8, M_get8, M_put8, M_ref9, M_kd9, M_ln9, M_get9, M_put9, M_ref10, M_kd10, M_ln10, M_get10, M_put10, M_ref11, M_kd11, M_ln11, M_get11, M_put11, M_ref12, M_kd12, M_ln12, M_get12, M_put12, M_ref13, M_kd13, M_ln13, M_get13, M_put13, M_ref14, M_kd14, M_ln14, M_get14, M_put14, M_p526, M_g526, M_p527, M_g527, M_p529, M_g529, M_p530, M_g530, M_p531, M_g531, M_p532, M_g532, M_p533, M_g533, M_p534, M_g534, M_p535, M_g535, M_p536, M_g536, M_p537, M_g537, M_p542, M_g542, M_p545, M_g545, M_p546, M_g546, M_p547, M_g547, M_p548, M_g548, M_p550, M_g550, M_hz, M_hs, jL_mul, jL_add, jL_sub, jL_div, jL_rem, jL_of32, jI_of64, jI_add, jI_sub, jI_mul, jI_div, jI_rem, jI_neg, jI_eq, jI_lt, jI_le, jI_eq0, jI_lt0, jI_0lt, jI_le0, jI_0le, forall_eq, true_and, and_true, or_true, true_or, or_false, false_or, and_false, false_and, not_true_eq_false, not_false_eq_true, false_implies, true_implies, implies_true, Int.reduceEq, Int.reduceLT, Int.reduceLE, Int.reduceAdd, Int.reduceSub, Int.reduceMul, Int.reduceNeg, Int.reduceNe, Nat.reduceEqDiff, Nat.reduceAdd, Int.cast_ofNat_Int, ne_eq, ↓reduceIte, sr_eq, sr_sr, sr_ne, up_up, vp_jI]
          refine stB _ _ ho1 (by omega) hc1 ?_
          unfold rchR; rw [ifP_t g]
      refine b_X7_writeHand_22 C ?_
      simp (disch := omega) only [M_kd, M_ref1, M_kd1, M_ln1, M_get1, M_put1, M_ref2, M_kd2, M_ln2, M_get2, M_put2, M_ref3, M_kd3, M_ln3, M_get3, M_put3, M_ref4, M_kd4, M_ln4, M_get4, M_put4, M_ref5, M_kd5, M_ln5, M_get5, M_put5, M_ref6, M_kd6, M_ln6, M_get6, M_put6, M_ref7, M_kd7, M_ln7, M_get7, M_put7, M_ref8, M_kd8, M_ln8, M_get8, M_put8, M_ref9, M_kd9, M_ln9, M_get9, M_put9, M_ref10, M_kd10, M_ln10, M_get10, M_put10, M_ref11, M_kd11, M_ln11, M_get11, M_put11, M_ref12, M_kd12, M_ln12, M_get12, M_put12, M_ref13, M_kd13, M_ln13, M_get13, M_put13, M_ref14, M_kd14, M_ln14, M_get14, M_put14, M_p526, M_g526, M_p527, M_g527, M_p529, M_g529, M_p530, M_g530, M_p531, M_g531, M_p532, M_g532, M_p533, M_g533, M_p534, M_g534, M_p535, M_g535, M_p536, M_g536, M_p537, M_g537, M_p542, M_g542, M_p545, M_g545, M_p546, M_g546, M_p547, M_g547, M_p548, M_g548, M_p550, M_g550, M_hz, M_hs, jL_mul, jL_add, jL_sub, jL_div, jL_rem, jL_of32, jI_of64, jI_add, jI_sub, jI_mul, jI_div, jI_rem, jI_neg, jI_eq, jI_lt, jI_le, jI_eq0, jI_lt0, jI_0lt, jI_le0, jI_0le, forall_eq, true_and, and_true, or_true, true_or, or_false, false_or, and_false, false_and, not_true_eq_false, not_false_eq_true, false_implies, true_implies, implies_true, Int.reduceEq, Int.reduceLT, Int.reduceLE, Int.reduceAdd, Int.reduceSub, Int.reduceMul, Int.reduceNeg, Int.reduceNe, Nat.reduceEqDiff, Nat.reduceAdd, Int.cast_ofNat_Int, ne_eq, ↓reduceIte, sr_eq, sr_sr, sr_ne, up_up, vp_jI, e1]
      refine ⟨fun g => absurd g (by omega), fun _ => m_held (by omega) (by omega) (by omega) ⟨_, rfl, ?_⟩⟩
      rw [e1]
      refine ⟨fun g => ?_, fun g => ?_⟩
      · simp (disch := omega) only [M_kd, M_ref1, M_kd1, M_ln1, M_get1, M_put1, M_ref2, M_kd2, M_ln2, M_get2, M_put2, M_ref3, M_kd3, M_ln3, M_get3, M_put3, M_ref4, M_kd4, M_ln4, M_get4, M_put4, M_ref5, M_kd5, M_ln5, M_get5, M_put5, M_ref6, M_kd6, M_ln6, M_get6, M_put6, M_ref7, M_kd7, M_ln7, M_get7, M_put7, M_ref8, M_kd8, M_ln8, M_get8, M_put8, M_ref9, M_kd9, M_ln9, M_get9, M_put9, M_ref10, M_kd10, M_ln10, M_get10, M_put10, M_ref11, M_kd11, M_ln11, M_get11, M_put11, M_ref12, M_kd12, M_ln12, M_get12, M_put12, M_ref13, M_kd13, M_ln13, M_get13, M_put13, M_ref14, M_kd14, M_ln14, M_get14, M_put14, M_p526, M_g526, M_p527, M_g527, M_p529, M_g529, M_p530, M_g530, M_p531, M_g531, M_p532, M_g532, M_p533, M_g533, M_p534, M_g534, M_p535, M_g535, M_p536, M_g536, M_p537, M_g537, M_p542, M_g542, M_p545, M_g545, M_p546, M_g546, M_p547, M_g547, M_p548, M_g548, M_p550, M_g550, M_hz, M_hs, jL_mul, jL_add, jL_sub, jL_div, jL_rem, jL_of32, jI_of64, jI_add, jI_sub, jI_mul, jI_div, jI_rem, jI_neg, jI_eq, jI_lt, jI_le, jI_eq0, jI_lt0, jI_0lt, jI_le0, jI_0le, forall_eq, true_and, and_true, or_true, true_or, or_false, false_or, and_false, false_and, not_true_eq_false, not_false_eq_true, false_implies, true_implies, implies_true, Int.reduceEq, Int.reduceLT, Int.reduceLE, Int.reduceAdd, Int.reduceSub, Int.reduceMul, Int.reduceNeg, Int.reduceNe, Nat.reduceEqDiff, Nat.reduceAdd, Int.cast_ofNat_Int, ne_eq, ↓reduceIte, sr_eq, sr_sr, sr_ne, up_up, vp_jI, e1]
        refine m_only (by omega) (by omega) ⟨_, rfl, ?_⟩
        have hob := only_bd (s := S 1 (67 + S 1 (191 + 5 * p + k)))
        refine stA _ (by omega) ?_
        unfold cchR; rw [ifP_f (fun w => w g)]
      · simp (disch := omega) only [M_kd, M_ref1, M_kd1, M_ln1, M_get1, M_put1, M_ref2, M_kd2, M_ln2, M_get2, M_put2, M_ref3, M_kd3, M_ln3, M_get3, M_put3, M_ref4, M_kd4, M_ln4, M_get4, M_put4, M_ref5, M_kd5, M_ln5, M_get5, M_put5, M_ref6, M_kd6, M_ln6, M_get6, M_put6, M_ref7, M_kd7, M_ln7, M_get7, M_put7, M_ref8, M_kd8, M_ln8, M_get8, M_put8, M_ref9, M_kd9, M_ln9, M_get9, M_put9, M_ref10, M_kd10, M_ln10, M_get10, M_put10, M_ref11, M_kd11, M_ln11, M_get11, M_put11, M_ref12, M_kd12, M_ln12, M_get12, M_put12, M_ref13, M_kd13, M_ln13, M_get13, M_put13, M_ref14, M_kd14, M_ln14, M_get14, M_put14, M_p526, M_g526, M_p527, M_g527, M_p529, M_g529, M_p530, M_g530, M_p531, M_g531, M_p532, M_g532, M_p533, M_g533, M_p534, M_g534, M_p535, M_g535, M_p536, M_g536, M_p537, M_g537, M_p542, M_g542, M_p545, M_g545, M_p546, M_g546, M_p547, M_g547, M_p548, M_g548, M_p550, M_g550, M_hz, M_hs, jL_mul, jL_add, jL_sub, jL_div, jL_rem, jL_of32, jI_of64, jI_add, jI_sub, jI_mul, jI_div, jI_rem, jI_neg, jI_eq, jI_lt, jI_le, jI_eq0, jI_lt0, jI_0lt, jI_le0, jI_0le, forall_eq, true_and, and_true, or_true, true_or, or_false, false_or, and_false, false_and, not_true_eq_false, not_false_eq_true, false_implies, true_implies, implies_true, Int.reduceEq, Int.reduceLT, Int.reduceLE, Int.reduceAdd, Int.reduceSub, Int.reduceMul, Int.reduceNeg, Int.reduceNe, Nat.reduceEqDiff, Nat.reduceAdd, Int.cast_ofNat_Int, ne_eq, ↓reduceIte, sr_eq, sr_sr, sr_ne, up_up, vp_jI, e1]
        refine m_colorOf (by omega) hkk.1 (by omega) ⟨_, rfl, ?_⟩
        refine stA _ (by omega) ?_
        unfold cchR; rw [ifP_t g]
  · simp (disch := omega) only [M_kd, M_ref1, M_kd1, M_ln1, M_get1, M_put1, M_ref2, M_kd2, M_ln2, M_get2, M_put2, M_ref3, M_kd3, M_ln3, M_get3, M_put3, M_ref4, M_kd4, M_ln4, M_get4, M_put4, M_ref5, M_kd5, M_ln5, M_get5, M_put5, M_ref6, M_kd6, M_ln6, M_get6, M_put6, M_ref7, M_kd7, M_ln7, M_get7, M_put7, M_ref8, M_kd8, M_ln8, M_get8, M_put8, M_ref9, M_kd9, M_ln9, M_get9, M_put9, M_ref10, M_kd10, M_ln10, M_get10, M_put10, M_ref11, M_kd11, M_ln11, M_get11, M_put11, M_ref12, M_kd12, M_ln12, M_get12, M_put12, M_ref13, M_kd13, M_ln13, M_get13, M_put13, M_ref14, M_kd14, M_ln14, M_get14, M_put14, M_p526, M_g526, M_p527, M_g527, M_p529, M_g529, M_p530, M_g530, M_p531, M_g531, M_p532, M_g532, M_p533, M_g533, M_p534, M_g534, M_p535, M_g535, M_p536, M_g536, M_p537, M_g537, M_p542, M_g542, M_p545, M_g545, M_p546, M_g546, M_p547, M_g547, M_p548, M_g548, M_p550, M_g550, M_hz, M_hs, jL_mul, jL_add, jL_sub, jL_div, jL_rem, jL_of32, jI_of64, jI_add, jI_sub, jI_mul, jI_div, jI_rem, jI_neg, jI_eq, jI_lt, jI_le, jI_eq0, jI_lt0, jI_0lt, jI_le0, jI_0le, forall_eq, true_and, and_true, or_true, true_or, or_false, false_or, and_false, false_and, not_true_eq_false, not_false_eq_true, false_implies, true_implies, implies_true, Int.reduceEq, Int.reduceLT, Int.reduceLE, Int.reduceAdd, Int.reduceSub, Int.reduceMul, Int.reduceNeg, Int.reduceNe, Nat.reduceEqDiff, Nat.reduceAdd, Int.cast_ofNat_Int, ne_eq, ↓reduceIte, sr_eq, sr_sr, sr_ne, up_up, vp_jI]
    exact h1 q
end TWW
section TWI
variable {G : Wd} {l : Launch} {d : Nat} {post : Option Value → VH → Prop} {xp : Nat → VH → Prop} {h0 h : VH} {m : Nat} {S : Nat → Row} {L : Nat → Int → Int64}
def PH (h0 : VH) (m k : Nat) (r : Row) (w : Nat) : VH :=
  (fun b => if b = m then (14, fun f => jI (r f), fun _ => 0, fun f => if aRef f ≤ k then (if aRef f = 0 then 0 else m + aRef f) else 0, 0)
    else if m < b ∧ b ≤ m + k then (aTag (b - m), fun _ => 0, fun _ => 0, fun _ => 0, aLen (b - m)) else h0.1 b, m + 1 + k, w)
theorem PH_step {k f n w : Nat} {r : Row} (hf : aRef f = k + 1) (hu : ∀ g, aRef g = k + 1 → g = f) (hn : aLen (k + 1) = n) : sR (al (PH h0 m k r w) (aTag (k + 1)) n n) f m (hz (PH h0 m k r w)) = PH h0 m (k + 1) r (w + n) := by
  unfold sR hset al PH
  refine Prod.ext ?_ (Prod.ext ?_ rfl)
  · funext b
    show (if b = m then _ else if b = m + 1 + k then _ else _) = (if b = m then _ else _)
    by_cases e : b = m
    · subst e
      rw [if_pos rfl, if_pos rfl]
      show cR (if b = b + 1 + k then _ else if b = b then _ else _) f _ = _
      rw [if_neg (by omega), if_pos rfl]
      unfold cR
      refine Prod.ext rfl (Prod.ext rfl (Prod.ext rfl (Prod.ext ?_ rfl)))
      funext g
      show (if g = f then b + 1 + k else if aRef g ≤ k then _ else 0) = (if aRef g ≤ k + 1 then (if aRef g = 0 then 0 else b + aRef g) else 0)
      by_cases q : g = f
      · subst q
        rw [if_pos rfl, if_pos (by omega), if_neg (by omega)]; omega
      · rw [if_neg q]
        by_cases q2 : aRef g ≤ k
        · rw [if_pos q2, if_pos (show aRef g ≤ k + 1 by omega)]
        · rw [if_neg q2, if_neg (fun q3 => q (hu g (by omega)))]
    · rw [if_neg e, if_neg e]
      by_cases e2 : b = m + 1 + k
      · rw [if_pos e2, if_pos (by omega), e2, show m + 1 + k - m = k + 1 by omega, hn]; rfl
      · rw [if_neg e2]
        show (if b = m then _ else _) = _
        rw [if_neg e]
        by_cases e3 : m < b ∧ b ≤ m + k
        · rw [if_pos e3, if_pos (by omega)]
        · rw [if_neg e3, if_neg (by omega)]
  · show m + 1 + k + 1 = m + 1 + (k + 1)
    omega
theorem PH_go {k f w : Nat} {n : Int} {r : Row} {tag : Nat} {rest : VH → Prop} (hf : aRef f = k + 1) (hu : ∀ g, aRef g = k + 1 → g = f) (ht : aTag (k + 1) = tag) (hn : 0 ≤ n ∧ n < 20000) (hn2 : aLen (k + 1) = n.toNat) (hc : m + 1 + k ≤ wC G) (hw : w + n.toNat ≤ wS G) (kk : rest (PH h0 m (k + 1) r (w + n.toNat))) :
    (¬ (jI n) < 0) ∧ ((jI n).toNatClampNeg ≤ 67108864) ∧ (hz (PH h0 m k r w) ≤ wC G) ∧ (hs (PH h0 m k r w) + (jI n).toNatClampNeg ≤ wS G) ∧ ∀ h1 : VH, h1 = al (PH h0 m k r w) tag (jI n).toNatClampNeg (jI n).toNatClampNeg → ((kd h1 m = 14) ∧ ∀ h2 : VH, h2 = sR h1 f m (hz (PH h0 m k r w)) → rest h2) := by
  subst ht
  rw [jI_clamp hn.1 (by omega)]
  refine ⟨?_, by omega, hc, hw, ?_⟩
  · rw [jI_lt0 (by omega) (by omega)]; omega
  · rintro h1 rfl
    refine ⟨?_, ?_⟩
    · unfold kd al PH
      show (if m = m + 1 + k then _ else if m = m then _ else _ : VC).1 = 14
      rw [if_neg (by omega), if_pos rfl]
    · rintro h2 rfl
      rw [PH_step hf hu hn2]
      exact kk
theorem PH_put {k f w : Nat} {r : Row} {v : Int} : sI (PH h0 m k r w) f m (jI v) = PH h0 m k (up r f v) w := by
  unfold sI hset PH
  refine Prod.ext ?_ rfl
  funext b
  show (if b = m then _ else if b = m then _ else _) = (if b = m then _ else _)
  by_cases e : b = m
  · subst e
    rw [if_pos rfl, if_pos rfl]
    show cI (if b = b then _ else _) f _ = _
    rw [if_pos rfl]
    unfold cI
    refine Prod.ext rfl (Prod.ext ?_ rfl)
    funext j
    show (if j = f then jI v else jI (r j)) = jI (up r f v j)
    unfold up
    by_cases e : j = f
    · rw [if_pos e, if_pos (by omega)]
    · rw [if_neg e, if_neg (by omega)]
  · rw [if_neg e, if_neg e, if_neg e]
theorem PH_kd {k w : Nat} {r : Row} : kd (PH h0 m k r w) m = 14 := by unfold kd PH; simp
def S0 (r : Row) : Nat → Row := fun k => if k = 0 then r else fun _ => 0
def aFld (k : Nat) : Nat := [0, 520, 521, 522, 523, 524, 525, 528, 538, 539, 540, 541, 543, 544, 549].getD k 0
theorem aRef_all {g : Nat} : aRef g = 0 ∨ (aRef g ≤ 14 ∧ aFld (aRef g) = g) := by
  by_cases h0 : g = 520
  · subst h0; exact Or.inr ⟨by decide, rfl⟩
  by_cases h1 : g = 521
  · subst h1; exact Or.inr ⟨by decide, rfl⟩
  by_cases h2 : g = 522
  · subst h2; exact Or.inr ⟨by decide, rfl⟩
  by_cases h3 : g = 523
  · subst h3; exact Or.inr ⟨by decide, rfl⟩
  by_cases h4 : g = 524
  · subst h4; exact Or.inr ⟨by decide, rfl⟩
  by_cases h5 : g = 525
  · subst h5; exact Or.inr ⟨by decide, rfl⟩
  by_cases h6 : g = 528
  · subst h6; exact Or.inr ⟨by decide, rfl⟩
  by_cases h7 : g = 538
  · subst h7; exact Or.inr ⟨by decide, rfl⟩
  by_cases h8 : g = 539
  · subst h8; exact Or.inr ⟨by decide, rfl⟩
  by_cases h9 : g = 540
  · subst h9; exact Or.inr ⟨by decide, rfl⟩
  by_cases h10 : g = 541
  · subst h10; exact Or.inr ⟨by decide, rfl⟩
  by_cases h11 : g = 543
  · subst h11; exact Or.inr ⟨by decide, rfl⟩
  by_cases h12 : g = 544
  · subst h12; exact Or.inr ⟨by decide, rfl⟩
  by_cases h13 : g = 549
  · subst h13; exact Or.inr ⟨by decide, rfl⟩
  left; unfold aRef; rw [if_neg h0, if_neg h1, if_neg h2, if_neg h3, if_neg h4, if_neg h5, if_neg h6, if_neg h7, if_neg h8, if_neg h9, if_neg h10, if_neg h11, if_neg h12, if_neg h13]
theorem aRef_le {g : Nat} : aRef g ≤ 14 := by
  rcases aRef_all (g := g) with h | h <;> omega
theorem aRef_inj {k f : Nat} (hk : k < 14) (hf : aRef f = k + 1) : ∀ g, aRef g = k + 1 → g = f := by
  intro g hg
  rcases aRef_all (g := g) with h | ⟨_, h⟩
  · omega
  · rcases aRef_all (g := f) with h2 | ⟨_, h2⟩
    · omega
    · rw [← h, ← h2, hf, hg]
theorem PH_end {w : Nat} {r : Row} : PH h0 m 14 r w = MH (h0.1, m + 15, w) m (S0 r) (fun _ _ => 0) := by
  unfold PH MH
  refine Prod.ext ?_ rfl
  funext b
  show (if b = m then _ else _) = (if b = m then _ else _)
  by_cases e : b = m
  · rw [if_pos e, if_pos e]
    refine Prod.ext rfl (Prod.ext rfl (Prod.ext rfl (Prod.ext ?_ rfl)))
    funext g
    show (if aRef g ≤ 14 then (if aRef g = 0 then 0 else m + aRef g) else 0) = (if aRef g = 0 then 0 else m + aRef g)
    rw [if_pos aRef_le]
  · rw [if_neg e, if_neg e]
    by_cases e3 : m < b ∧ b ≤ m + 14
    · rw [if_pos e3, if_pos e3]
      refine Prod.ext rfl (Prod.ext ?_ rfl)
      funext j
      show (0 : Int32) = jI (S0 r (b - m) j)
      unfold S0
      rw [if_neg (by omega)]; rfl
    · rw [if_neg e3, if_neg e3]
theorem PH_beg (hc : h.1 m = vc0 14 0) (hm : hz h = m + 1) : h = PH h m 0 (fun _ => 0) (hs h) := by
  obtain ⟨f, z, w⟩ := h
  unfold PH
  refine Prod.ext ?_ (Prod.ext ?_ rfl)
  · funext b
    show f b = (if b = m then _ else _)
    by_cases e : b = m
    · subst e
      rw [if_pos rfl]
      have hc2 : f b = vc0 14 0 := hc
      rw [hc2]
      refine Prod.ext rfl (Prod.ext rfl (Prod.ext rfl (Prod.ext ?_ rfl)))
      funext g
      show 0 = (if aRef g ≤ 0 then _ else _)
      by_cases q : aRef g ≤ 0
      · rw [if_pos q, if_pos (by omega)]
      · rw [if_neg q]
    · rw [if_neg e, if_neg (by omega)]
  · exact hm
noncomputable def initS : Nat → Row := sr (S0 (up (fun _ => 0) 537 (-1))) 1 (up (fun _ => 0) 12 3)
theorem m_init (hd : 9 ≤ d) (hm : m ≠ 0) (hc : h.1 m = vc0 14 0) (hh : hz h = m + 1) (hC : m + 14 ≤ wC G) (hS : hs h + 46068 ≤ wS G) (hp : post none (MH (h.1, m + 15, hs h + 46068) m initS (fun _ _ => 0))) : D G l d mX7_init [vR m] h post xp := by
  refine t_X7_init (by omega) ⟨hm, ?_⟩
  generalize hws : hs h = w at *
  rw [PH_beg hc hh, hws]
  refine PH_go (n := 358) rfl (aRef_inj (by omega) rfl) rfl (by omega) rfl (by omega) (by omega) ?_
  refine PH_go (n := 358) rfl (aRef_inj (by omega) rfl) rfl (by omega) rfl (by omega) (by omega) ?_
  refine PH_go (n := 358) rfl (aRef_inj (by omega) rfl) rfl (by omega) rfl (by omega) (by omega) ?_
  refine PH_go (n := 7160) rfl (aRef_inj (by omega) rfl) rfl (by omega) rfl (by omega) (by omega) ?_
  refine PH_go (n := 716) rfl (aRef_inj (by omega) rfl) rfl (by omega) rfl (by omega) (by omega) ?_
  refine PH_go (n := 2) rfl (aRef_inj (by omega) rfl) rfl (by omega) rfl (by omega) (by omega) ?_
  refine PH_go (n := 600) rfl (aRef_inj (by omega) rfl) rfl (by omega) rfl (by omega) (by omega) ?_
  refine ⟨PH_kd, ?_⟩
  rintro h1 rfl
  rw [PH_put]
  refine PH_go (n := 4) rfl (aRef_inj (by omega) rfl) rfl (by omega) rfl (by omega) (by omega) ?_
  refine PH_go (n := 16080) rfl (aRef_inj (by omega) rfl) rfl (by omega) rfl (by omega) (by omega) ?_
  refine PH_go (n := 4020) rfl (aRef_inj (by omega) rfl) rfl (by omega) rfl (by omega) (by omega) ?_
  refine PH_go (n := 16384) rfl (aRef_inj (by omega) rfl) rfl (by omega) rfl (by omega) (by omega) ?_
  refine PH_go (n := 4) rfl (aRef_inj (by omega) rfl) rfl (by omega) rfl (by omega) (by omega) ?_
  refine PH_go (n := 4) rfl (aRef_inj (by omega) rfl) rfl (by omega) rfl (by omega) (by omega) ?_
  refine PH_go (n := 20) rfl (aRef_inj (by omega) rfl) rfl (by omega) rfl (by omega) (by omega) ?_
  rw [PH_end]
  simp (disch := omega) only [M_kd, M_ref1, M_kd1, M_ln1, M_get1, M_put1, M_ref2, M_kd2, M_ln2, M_get2, M_put2, M_ref3, M_kd3, M_ln3, M_get3, M_put3, M_ref4, M_kd4, M_ln4, M_get4, M_put4, M_ref5, M_kd5, M_ln5, M_get5, M_put5, M_ref6, M_kd6, M_ln6, M_get6, M_put6, M_ref7, M_kd7, M_ln7, M_get7, M_put7, M_ref8, M_kd8, M_ln8, M_get8, M_put8, M_ref9, M_kd9, M_ln9, M_get9, M_put9, M_ref10, M_kd10, M_ln10, M_get10, M_put10, M_ref11, M_kd11, M_ln11, M_get11, M_put11, M_ref12, M_kd12, M_ln12, M_get12, M_put12, M_ref13, M_kd13, M_ln13, M_get13, M_put13, M_ref14, M_kd14, M_ln14, M_get14, M_put14, M_p526, M_g526, M_p527, M_g527, M_p529, M_g529, M_p530, M_g530, M_p531, M_g531, M_p532, M_g532, M_p533, M_g533, M_p534, M_g534, M_p535, M_g535, M_p536, M_g536, M_p537, M_g537, M_p542, M_g542, M_p545, M_g545, M_p546, M_g546, M_p547, M_g547, M_p548, M_g548, M_p550, M_g550, M_hz, M_hs, jL_mul, jL_add, jL_sub, jL_div, jL_rem, jL_of32, jI_of64, jI_add, jI_sub, jI_mul, jI_div, jI_rem, jI_neg, jI_eq, jI_lt, jI_le, jI_eq0, jI_lt0, jI_0lt, jI_le0, jI_0le, forall_eq, true_and, and_true, or_true, true_or, or_false, false_or, and_false, false_and, not_true_eq_false, not_false_eq_true, false_implies, true_implies, implies_true, Int.reduceEq, Int.reduceLT, Int.reduceLE, Int.reduceAdd, Int.reduceSub, Int.reduceMul, Int.reduceNeg, Int.reduceNe, Nat.reduceEqDiff, Nat.reduceAdd, Int.cast_ofNat_Int, ne_eq, ↓reduceIte, sr_eq, sr_sr, sr_ne, up_up, vp_jI]
  exact hp
theorem init_at {j : Int} (h : j ≠ 12) : initS 1 j = 0 := by
  unfold initS; rw [sr_eq]; exact up_ne h
theorem init_12 : initS 1 12 = 3 := by unfold initS; rw [sr_eq]; exact up_eq
theorem GI_zero : GI (initS 1) := by
  have z : ∀ j, j ≠ 12 → initS 1 j = 0 := fun j h => init_at h
  have z12 := init_12
  generalize initS 1 = r at *
  have z0 := z 0 (by omega)
  have z1 := z 1 (by omega)
  have z2 := z 2 (by omega)
  have z3 := z 3 (by omega)
  have z4 := z 4 (by omega)
  have z5 := z 5 (by omega)
  have z6 := z 6 (by omega)
  have z7 := z 7 (by omega)
  have z8 := z 8 (by omega)
  have z9 := z 9 (by omega)
  have z10 := z 10 (by omega)
  have z13 := z 13 (by omega)
  refine ⟨⟨by omega, fun c a b => ?_, fun c a b => ?_, fun c a b => ?_, fun k a b => ?_, fun c a b => ?_, fun w a b => ?_, fun p a b => ?_, fun p k a b c d => ?_, fun p k a b c d => ?_, fun p k q j a b c d => ?_, fun k a b => ?_, fun c a b => ?_⟩, by omega, by omega, by omega, by omega, by omega, ?_, ?_, by omega, by omega, by omega, fun p a b => ?_⟩
  · rw [z (14 + c) (by omega)]; omega
  · rw [z (27 + c) (by omega)]; omega
  · omega
  · rw [z (211 + k) (by omega)]; omega
  · rw [z (67 + c) (by omega), z (107 + c) (by omega), z (147 + c) (by omega)]; omega
  · rw [z w (by omega)]; omega
  · rw [z (187 + p) (by omega)]; omega
  · rw [z (191 + 5 * p + k) (by omega)]; omega
  · rw [z (187 + p) (by omega)] at d; omega
  · rw [z (187 + p) (by omega)] at d; omega
  · have hb := rnk_bd (k := k) (by omega)
    have hc := col_bd (k := k) (by omega)
    unfold drawnOf inHands
    rw [z5, z2, su_self, su_self, z (211 + k) (by omega), z (14 + colR k) (by omega), if_neg (by omega), if_neg (by omega)]
    rfl
  · omega
  · rw [if_pos z2]; exact z12
  · unfold Phi; rw [if_neg (by omega)]; omega
  · rw [z (187 + p) (by omega)]; omega
end TWI
