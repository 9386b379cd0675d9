set_option maxRecDepth 100000
/-! ===== what holds of every game ===== -/
def drawnOf (r : Row) (k : Int) : Int := su 0 (r 5) (fun c => if r (27 + c) = k then 1 else 0)
/-- x: a kind whose card is on its way (-1: none) -/
def CI (r : Row) (x : Int) : Prop :=
  ((0 ≤ r 0 ∧ r 0 ≤ 4) ∧ (0 ≤ r 1 ∧ r 1 ≤ 5) ∧ (0 ≤ r 2 ∧ r 2 ≤ 4) ∧ (0 ≤ r 4 ∧ r 4 ≤ 40) ∧ (0 ≤ r 5 ∧ r 5 ≤ r 4)) ∧
  (∀ c, 0 ≤ c → c < 4 → 0 ≤ r (14 + c) ∧ r (14 + c) ≤ r 1 ∧ (r 0 ≤ c → r (14 + c) = 0)) ∧
  (∀ c, 0 ≤ c → c < 40 → 0 ≤ r (27 + c) ∧ r (27 + c) < 20) ∧
  (∀ c, 0 ≤ c → c < r 4 → colR (r (27 + c)) < r 0 ∧ rnkR (r (27 + c)) ≤ r 1) ∧
  (∀ k, 0 ≤ k → k < 20 → 0 ≤ r (211 + k)) ∧
  RS r ∧ RW r ∧
  (∀ p, 0 ≤ p → p < 4 → 0 ≤ r (187 + p) ∧ r (187 + p) ≤ 5 ∧ (r 2 ≤ p → r (187 + p) = 0)) ∧
  (∀ p k, 0 ≤ p → p < 4 → 0 ≤ k → k < 5 → 0 ≤ r (191 + 5 * p + k) ∧ r (191 + 5 * p + k) < 40) ∧
  (∀ p k, 0 ≤ p → p < 4 → 0 ≤ k → k < r (187 + p) → r (191 + 5 * p + k) < r 5 ∧ hasB (r (67 + r (191 + 5 * p + k))) (colR (r (27 + r (191 + 5 * p + k)))) ∧ hasB (r (107 + r (191 + 5 * p + k))) (rnkR (r (27 + r (191 + 5 * p + k))) - 1)) ∧
  (∀ p k q j, 0 ≤ p → p < 4 → 0 ≤ k → k < r (187 + p) → 0 ≤ q → q < 4 → 0 ≤ j → j < r (187 + q) → r (191 + 5 * p + k) = r (191 + 5 * q + j) → p = q ∧ k = j) ∧
  (∀ k, 0 ≤ k → k < 20 → drawnOf r k = r (211 + k) + (if rnkR k ≤ r (14 + colR k) then 1 else 0) + inHands r k (-1) + (if k = x then 1 else 0)) ∧
  (∀ c, r 5 ≤ c → c < r 4 → r (67 + c) = 2 ^ (r 0).toNat - 1 ∧ r (107 + c) = 2 ^ (r 1).toNat - 1 ∧ r (147 + c) = 0)
theorem inHands_same {r r' : Row} (h2 : r' 2 = r 2) (hk : ∀ c, 0 ≤ c → c < 40 → r' (27 + c) = r (27 + c)) (h : ∀ j, 187 ≤ j → j < 211 → r' j = r j) (b2 : r 2 ≤ 4) (bs : ∀ p, 0 ≤ p → p < 4 → r (187 + p) ≤ 5) (bh : ∀ p k, 0 ≤ p → p < 4 → 0 ≤ k → k < 5 → 0 ≤ r (191 + 5 * p + k) ∧ r (191 + 5 * p + k) < 40) {k b : Int} : inHands r' k b = inHands r k b := by
  unfold inHands inHandOf
  rw [h2]
  refine su_congr fun p h3 h4 => ?_
  split
  · rfl
  · rw [h (187 + p) (by omega) (by omega)]
    refine su_congr fun j h5 h6 => ?_
    have h8 := bs p h3 (by omega)
    rw [h (191 + 5 * p + j) (by omega) (by omega)]
    have h7 := bh p j h3 (by omega) h5 (by omega)
    rw [hk _ h7.1 h7.2]
theorem drawnOf_same {r r' : Row} (h5 : r' 5 = r 5) (hb : r 5 ≤ 40) (hk : ∀ c, 0 ≤ c → c < 40 → r' (27 + c) = r (27 + c)) {k : Int} : drawnOf r' k = drawnOf r k := by
  unfold drawnOf
  rw [h5]
  exact su_congr fun c h1 h2 => by rw [hk c h1 (by omega)]
theorem CI_same {r r' : Row} {x : Int} (h : ∀ j, (j = 0 ∨ j = 1 ∨ j = 2 ∨ j = 4 ∨ j = 5 ∨ (14 ≤ j ∧ j < 231)) → r' j = r j) (hr : CI r x) : CI r' x := by
  obtain ⟨⟨a0, a1, a2, a4, a5⟩, hp, hk, hkc, hh, hs, hw, hsz, hhd, hown, hdis, hcon, hund⟩ := hr
  have e0 := h 0 (by omega)
  have e1 := h 1 (by omega)
  have e2 := h 2 (by omega)
  have e4 := h 4 (by omega)
  have e5 := h 5 (by omega)
  have e : ∀ j, 14 ≤ j → j < 231 → r' j = r j := fun j a b => h j (by omega)
  refine ⟨by rw [e0, e1, e2, e4, e5]; exact ⟨a0, a1, a2, a4, a5⟩, fun c a b => ?_, fun c a b => ?_, fun c a b => ?_, fun c a b => ?_, RS_same (fun j hj => e j (by omega) (by omega)) hs, RW_same (fun j hj => e j (by omega) (by omega)) hw, fun p a b => ?_, fun p k a b c d => ?_, fun p k a b c d => ?_, fun p k q j a b c d a' b' c' d' => ?_, fun k a b => ?_, fun c a b => ?_⟩
  · rw [e _ (by omega) (by omega), e0, e1]; exact hp c a b
  · rw [e _ (by omega) (by omega)]; exact hk c a b
  · rw [e4] at b; rw [e _ (by omega) (by omega), e0, e1]; exact hkc c a b
  · rw [e _ (by omega) (by omega)]; exact hh c a b
  · rw [e _ (by omega) (by omega), e2]; exact hsz p a b
  · rw [e _ (by omega) (by omega)]; exact hhd p k a b c d
  · rw [e _ (by omega) (by omega)] at d
    have h1 := hsz p a b
    have h2 := hhd p k a b c (by omega)
    rw [e (191 + 5 * p + k) (by omega) (by omega), e5, e (67 + _) (by omega) (by omega), e (27 + _) (by omega) (by omega), e (107 + _) (by omega) (by omega)]
    exact hown p k a b c d
  · rw [e _ (by omega) (by omega)] at d d'
    have h1 := hsz p a b
    have h2 := hsz q a' b'
    rw [e (191 + 5 * p + k) (by omega) (by omega), e (191 + 5 * q + j) (by omega) (by omega)]
    exact hdis p k q j a b c d a' b' c' d'
  · have hc := col_bd ⟨a, b⟩
    rw [drawnOf_same e5 (by omega) (fun c h1 h2 => e _ (by omega) (by omega)), inHands_same e2 (fun c h1 h2 => e _ (by omega) (by omega)) (fun j h1 h2 => e _ (by omega) (by omega)) a2.2 (fun p h1 h2 => (hsz p h1 h2).2.1) hhd, e (211 + k) (by omega) (by omega), e (14 + colR k) (by omega) (by omega)]
    exact hcon k a b
  · rw [e5] at a; rw [e4] at b
    rw [e (67 + c) (by omega) (by omega), e (107 + c) (by omega) (by omega), e (147 + c) (by omega) (by omega), e0, e1]
    exact hund c a b
theorem CI.rhd {r : Row} {x : Int} (h : CI r x) (h10 : 0 ≤ r 10 ∧ r 10 < 4) : RHd r := ⟨h.1.2.2.1, h10, fun p a b => by have := h.2.2.2.2.2.2.2.1 p a b; omega, h.2.2.2.2.2.2.2.2.1⟩
theorem inHands_nn {r : Row} {x : Int} (h : CI r x) {k b : Int} : 0 ≤ inHands r k b := by
  unfold inHands
  refine su_nonneg fun p h1 h2 => ?_
  split
  · omega
  · unfold inHandOf
    exact su_nonneg fun j _ _ => by split <;> omega
theorem CI.rk {r : Row} {x : Int} (h : CI r x) : RK r := by
  have hn := fun k => inHands_nn h (k := k) (b := -1)
  obtain ⟨⟨a0, a1, a2, a4, a5⟩, hp, hk, hkc, hh, hs, hw, hsz, hhd, hown, hdis, hcon, hund⟩ := h
  refine ⟨a0, a1, a4, fun c a b => by have := hp c a b; omega, hk, fun k a b => ⟨hh k a b, ?_⟩⟩
  have h1 := hcon k a b
  have h2 : drawnOf r k ≤ r 5 - 0 := su_le1 a5.1 (fun c _ _ => by split <;> omega)
  have h3 := hn k
  split at h1 <;> split at h1 <;> omega
/-! the steps -/
theorem su_shift {n x : Int} {f : Int → Int} (hx : 0 ≤ x ∧ x < n) : su 0 (n - 1) (fun j => if x ≤ j then f (j + 1) else f j) + f x = su 0 n f := by
  rw [su_split (f := f) (show (0 : Int) ≤ x by omega) (show x ≤ n by omega), su_split (f := fun j => if x ≤ j then f (j + 1) else f j) (show (0 : Int) ≤ x by omega) (show x ≤ n - 1 by omega)]
  have e1 : su 0 x (fun j => if x ≤ j then f (j + 1) else f j) = su 0 x f := su_congr fun j h1 h2 => by rw [if_neg (by omega)]
  have e2 : su x (n - 1) (fun j => if x ≤ j then f (j + 1) else f j) + f x = su x n f := by
    have e3 : su x (n - 1) (fun j => if x ≤ j then f (j + 1) else f j) = su (x + 1) n f := by
      unfold su
      rw [show (n - (x + 1)).toNat = (n - 1 - x).toNat by omega]
      refine sm_congr fun j h1 h2 => ?_
      dsimp only
      rw [if_pos (by omega)]; congr 1; omega
    rw [e3, su_split (f := f) (show x ≤ x + 1 by omega) (show x + 1 ≤ n by omega), su_succ (Int.le_refl _), su_self]
    omega
  rw [e1]; omega
theorem inHandOf_takes {r : Row} (hq : RHd r) {x k : Int} (hx : 0 ≤ x ∧ x < r (187 + r 10)) : inHandOf (takesOutR r x) k (r 10) + (if kindAt r (r 10) x = k then 1 else 0) = inHandOf r k (r 10) := by
  have h1 := hq.2.1
  have h2 := hq.2.2.1 _ h1.1 h1.2
  unfold inHandOf
  have e9 : takesOutR r x (187 + r 10) = r (187 + r 10) - 1 := by unfold takesOutR; rw [if_pos rfl]
  rw [e9, ← su_shift (f := fun j => if r (27 + r (191 + 5 * r 10 + j)) = k then 1 else 0) hx]
  have e : su 0 (r (187 + r 10) - 1) (fun j => if takesOutR r x (27 + takesOutR r x (191 + 5 * r 10 + j)) = k then 1 else 0) = su 0 (r (187 + r 10) - 1) (fun j => if x ≤ j then (if r (27 + r (191 + 5 * r 10 + (j + 1))) = k then 1 else 0) else (if r (27 + r (191 + 5 * r 10 + j)) = k then 1 else 0)) := by
    refine su_congr fun j h3 h4 => ?_
    by_cases q : x ≤ j
    · have e2 : takesOutR r x (191 + 5 * r 10 + j) = r (191 + 5 * r 10 + (j + 1)) := by
        unfold takesOutR; rw [if_neg (by omega), if_pos (by omega)]; congr 1; omega
      have h5 := hq.2.2.2 (r 10) (j + 1) h1.1 h1.2 (by omega) (by omega)
      rw [e2, takes_at h1 h2.2 hx.1 (by omega), if_pos q]
    · have e2 : takesOutR r x (191 + 5 * r 10 + j) = r (191 + 5 * r 10 + j) := by
        unfold takesOutR; rw [if_neg (by omega), if_neg (by omega)]
      have h5 := hq.2.2.2 (r 10) j h1.1 h1.2 (by omega) (by omega)
      rw [e2, takes_at h1 h2.2 hx.1 (by omega), if_neg q]
  rw [e]
  rfl
/-- one player's hand changes -/
theorem inHands_one {r r' : Row} (h2 : r' 2 = r 2) {k t dl : Int} (ht : 0 ≤ t ∧ t < r 2) (hd : inHandOf r' k t = inHandOf r k t + dl) (ho : ∀ p, 0 ≤ p → p < r 2 → p ≠ t → inHandOf r' k p = inHandOf r k p) : inHands r' k (-1) = inHands r k (-1) + dl := by
  unfold inHands
  rw [h2]
  rw [su_split (lo := 0) (mid := t) (hi := r 2) (by omega) (by omega), su_split (lo := t) (mid := t + 1) (hi := r 2) (by omega) (by omega), su_succ (Int.le_refl t), su_self]
  rw [su_split (lo := 0) (mid := t) (hi := r 2) (f := fun p => if p = -1 then 0 else inHandOf r k p) (by omega) (by omega), su_split (lo := t) (mid := t + 1) (hi := r 2) (f := fun p => if p = -1 then 0 else inHandOf r k p) (by omega) (by omega), su_succ (Int.le_refl t), su_self]
  have e1 : su 0 t (fun p => if p = -1 then 0 else inHandOf r' k p) = su 0 t (fun p => if p = -1 then 0 else inHandOf r k p) := su_congr fun p a b => by rw [ho p a (by omega) (by omega)]
  have e2 : su (t + 1) (r 2) (fun p => if p = -1 then 0 else inHandOf r' k p) = su (t + 1) (r 2) (fun p => if p = -1 then 0 else inHandOf r k p) := su_congr fun p a b => by rw [ho p (by omega) b (by omega)]
  rw [e1, e2, if_neg (by omega), if_neg (by omega), hd]
  omega
theorem CI_takes {r : Row} (hr : CI r (-1)) (h10 : 0 ≤ r 10 ∧ r 10 < r 2) {x : Int} (hx : 0 ≤ x ∧ x < r (187 + r 10)) : CI (takesOutR r x) (kindAt r (r 10) x) := by
  have hq := hr.rhd (by have := hr.1.2.2.1; omega)
  obtain ⟨⟨a0, a1, a2, a4, a5⟩, hp, hk, hkc, hh, hs, hw, hsz, hhd, hown, hdis, hcon, hund⟩ := hr
  have h187 := hsz (r 10) h10.1 (by omega)
  have e : ∀ j, (j < 187 ∨ 211 ≤ j) → takesOutR r x j = r j := fun j hj => takes_at hq.2.1 h187.2.1 hx.1 hj
  have eS : ∀ p, 0 ≤ p → p < 4 → takesOutR r x (187 + p) = if p = r 10 then r (187 + p) - 1 else r (187 + p) := fun p a b => by
    unfold takesOutR
    by_cases q : p = r 10
    · rw [if_pos (by omega), if_pos q]
    · rw [if_neg (by omega), if_neg (by omega), if_neg q]
  have eH : ∀ p k, 0 ≤ p → p < 4 → 0 ≤ k → k < 5 → takesOutR r x (191 + 5 * p + k) = if p = r 10 ∧ x ≤ k ∧ k < r (187 + r 10) - 1 then r (191 + 5 * p + (k + 1)) else r (191 + 5 * p + k) := fun p k a b c d => by
    unfold takesOutR
    rw [if_neg (by omega)]
    by_cases q : p = r 10 ∧ x ≤ k ∧ k < r (187 + r 10) - 1
    · rw [if_pos (by omega), if_pos q]; congr 1; omega
    · rw [if_neg (by omega), if_neg q]
  -- a place of the new hands is one of the old
  have old : ∀ p k, 0 ≤ p → p < 4 → 0 ≤ k → k < takesOutR r x (187 + p) → ∃ k', 0 ≤ k' ∧ k' < r (187 + p) ∧ k' < 5 ∧ takesOutR r x (191 + 5 * p + k) = r (191 + 5 * p + k') ∧ (k' = if p = r 10 ∧ x ≤ k then k + 1 else k) := fun p k a b c d => by
    rw [eS p a b] at d
    have h1 := hsz p a b
    by_cases q : p = r 10 ∧ x ≤ k
    · refine ⟨k + 1, by omega, by split at d <;> omega, by split at d <;> omega, ?_, by rw [if_pos q]⟩
      have hk5 : k < r (187 + r 10) - 1 := by rw [if_pos q.1] at d; rw [← q.1]; exact d
      rw [eH p k a b c (by omega), if_pos ⟨q.1, q.2, hk5⟩]
    · refine ⟨k, by omega, by split at d <;> omega, by split at d <;> omega, ?_, by rw [if_neg q]⟩
      rw [eH p k a b c (by split at d <;> omega), if_neg (fun q2 => q ⟨q2.1, q2.2.1⟩)]
  have bk := hhd (r 10) x h10.1 (by omega) hx.1 (by omega)
  refine ⟨by rw [e 0 (by omega), e 1 (by omega), e 2 (by omega), e 4 (by omega), e 5 (by omega)]; exact ⟨a0, a1, a2, a4, a5⟩, fun c a b => ?_, fun c a b => ?_, fun c a b => ?_, fun c a b => ?_, RS_same (fun j hj => e j (by omega)) hs, RW_same (fun j hj => e j (by omega)) hw, fun p a b => ?_, fun p k a b c d => ?_, fun p k a b c d => ?_, fun p k q j a b c d a' b' c' d' => ?_, fun k a b => ?_, fun c a b => ?_⟩
  · rw [e _ (by omega), e 0 (by omega), e 1 (by omega)]; exact hp c a b
  · rw [e _ (by omega)]; exact hk c a b
  · rw [e 4 (by omega)] at b; rw [e _ (by omega), e 0 (by omega), e 1 (by omega)]; exact hkc c a b
  · rw [e _ (by omega)]; exact hh c a b
  · rw [eS p a b, e 2 (by omega)]
    have := hsz p a b
    split
    · next q => subst q; omega
    · exact this
  · rw [eH p k a b c d]
    have h1 := hhd p k a b c d
    split
    · exact hhd p (k + 1) a b (by omega) (by omega)
    · exact h1
  · obtain ⟨k', g1, g2, g3, g4, -⟩ := old p k a b c d
    have h2 := hhd p k' a b g1 g3
    rw [g4, e 5 (by omega), e (67 + _) (by omega), e (27 + _) (by omega), e (107 + _) (by omega)]
    exact hown p k' a b g1 g2
  · obtain ⟨k', g1, g2, g3, g4, g5⟩ := old p k a b c d
    obtain ⟨j', f1, f2, f3, f4, f5⟩ := old q j a' b' c' d'
    rw [g4, f4]
    intro hh
    obtain ⟨q1, q2⟩ := hdis p k' q j' a b g1 g2 a' b' f1 f2 hh
    refine ⟨q1, ?_⟩
    subst q1
    split at g5 <;> split at f5 <;> omega
  · have hc := col_bd ⟨a, b⟩
    have h1 := inHandOf_takes hq (k := k) hx
    have h2 : inHands (takesOutR r x) k (-1) = inHands r k (-1) + (-(if kindAt r (r 10) x = k then 1 else 0)) := by
      refine inHands_one (e 2 (by omega)) h10 (by omega) (fun p c1 c2 c3 => ?_)
      unfold inHandOf
      rw [eS p c1 (by omega), if_neg c3]
      refine su_congr fun j h3 h4 => ?_
      have h5 := hsz p c1 (by omega)
      have h6 := hhd p j c1 (by omega) h3 (by omega)
      have h7 := eH p j c1 (by omega) h3 (by omega)
      rw [if_neg (fun q => c3 q.1)] at h7
      rw [h7, e (27 + _) (by omega)]
    have h3 := hcon k a b
    rw [if_neg (show ¬ k = -1 by omega)] at h3
    rw [drawnOf_same (e 5 (by omega)) (by omega) (fun c h1 h2 => e _ (by omega)), h2, e (211 + k) (by omega), e (14 + colR k) (by omega), h3]
    by_cases q : kindAt r (r 10) x = k
    · rw [if_pos (show kindAt r (r 10) x = k from q), if_pos (show k = kindAt r (r 10) x from q.symm)]; omega
    · rw [if_neg (show ¬ kindAt r (r 10) x = k from q), if_neg (show ¬ k = kindAt r (r 10) x from fun q2 => q q2.symm)]; omega
  · rw [e 5 (by omega)] at a; rw [e 4 (by omega)] at b
    rw [e (67 + c) (by omega), e (107 + c) (by omega), e (147 + c) (by omega), e 0 (by omega), e 1 (by omega)]
    exact hund c a b
theorem CI_toHeap {r : Row} {k : Int} (hr : CI r k) (hk0 : 0 ≤ k ∧ k < 20) : CI (toHeapR r k) (-1) := by
  obtain ⟨⟨a0, a1, a2, a4, a5⟩, hp, hk, hkc, hh, hs, hw, hsz, hhd, hown, hdis, hcon, hund⟩ := hr
  have e : ∀ j, j ≠ 237 → j ≠ 211 + k → toHeapR r k j = r j := fun j h1 h2 => toHeap_at h1 h2
  have e9 : toHeapR r k (211 + k) = r (211 + k) + 1 := by unfold toHeapR; rw [up_eq]
  refine ⟨by rw [e 0 (by omega) (by omega), e 1 (by omega) (by omega), e 2 (by omega) (by omega), e 4 (by omega) (by omega), e 5 (by omega) (by omega)]; exact ⟨a0, a1, a2, a4, a5⟩, fun c a b => ?_, fun c a b => ?_, fun c a b => ?_, fun c a b => ?_, RS_same (fun j hj => e j (by omega) (by omega)) hs, RW_same (fun j hj => e j (by omega) (by omega)) hw, fun p a b => ?_, fun p k a b c d => ?_, fun p k a b c d => ?_, fun p k q j a b c d a' b' c' d' => ?_, fun q a b => ?_, fun c a b => ?_⟩
  · rw [e (14 + c) (by omega) (by omega), e 0 (by omega) (by omega), e 1 (by omega) (by omega)]; exact hp c a b
  · rw [e _ (by omega) (by omega)]; exact hk c a b
  · rw [e 4 (by omega) (by omega)] at b; rw [e (27 + c) (by omega) (by omega), e 0 (by omega) (by omega), e 1 (by omega) (by omega)]; exact hkc c a b
  · by_cases q : c = k
    · subst q; rw [e9]; have := hh c a b; omega
    · by_cases q2 : c = 26
      · omega
      · rw [e _ (by omega) (by omega)]; exact hh c a b
  · rw [e (187 + p) (by omega) (by omega), e 2 (by omega) (by omega)]; exact hsz p a b
  · rw [e _ (by omega) (by omega)]; exact hhd p k a b c d
  · rw [e (187 + p) (by omega) (by omega)] at d
    have h1 := hsz p a b
    have h2 := hhd p k a b c (by omega)
    rw [e (191 + 5 * p + k) (by omega) (by omega), e 5 (by omega) (by omega), e (67 + _) (by omega) (by omega), e (27 + _) (by omega) (by omega), e (107 + _) (by omega) (by omega)]
    exact hown p k a b c d
  · rw [e (187 + p) (by omega) (by omega)] at d
    rw [e (187 + q) (by omega) (by omega)] at d'
    have h1 := hsz p a b
    have h2 := hsz q a' b'
    rw [e (191 + 5 * p + k) (by omega) (by omega), e (191 + 5 * q + j) (by omega) (by omega)]
    exact hdis p k q j a b c d a' b' c' d'
  · have hc := col_bd ⟨a, b⟩
    have h3 := hcon q a b
    rw [drawnOf_same (e 5 (by omega) (by omega)) (by omega) (fun c h1 h2 => e _ (by omega) (by omega)), inHands_same (e 2 (by omega) (by omega)) (fun c h1 h2 => e _ (by omega) (by omega)) (fun j h1 h2 => e _ (by omega) (by omega)) a2.2 (fun p h1 h2 => (hsz p h1 h2).2.1) hhd, e (14 + colR q) (by omega) (by omega), if_neg (show ¬ q = -1 by omega)]
    by_cases g : q = k
    · subst g; rw [e9]; rw [if_pos (show q = q from rfl)] at h3; omega
    · rw [e (211 + q) (by omega) (by omega)]; rw [if_neg (show ¬ q = k from g)] at h3; exact h3
  · rw [e 5 (by omega) (by omega)] at a; rw [e 4 (by omega) (by omega)] at b
    rw [e (67 + c) (by omega) (by omega), e (107 + c) (by omega) (by omega), e (147 + c) (by omega) (by omega), e 0 (by omega) (by omega), e 1 (by omega) (by omega)]
    exact hund c a b
theorem CI_pile {r : Row} {k : Int} (hr : CI r k) (hk0 : 0 ≤ k ∧ k < 20) (hn : nextR r k) (hc0 : colR k < r 0) (hc1 : rnkR k ≤ r 1) : CI (up r (14 + colR k) (r (14 + colR k) + 1)) (-1) := by
  obtain ⟨⟨a0, a1, a2, a4, a5⟩, hp, hk, hkc, hh, hs, hw, hsz, hhd, hown, hdis, hcon, hund⟩ := hr
  have hcb := col_bd hk0
  unfold nextR at hn
  have e : ∀ j, j ≠ 14 + colR k → up r (14 + colR k) (r (14 + colR k) + 1) j = r j := fun j h1 => up_ne h1
  refine ⟨by rw [e 0 (by omega), e 1 (by omega), e 2 (by omega), e 4 (by omega), e 5 (by omega)]; exact ⟨a0, a1, a2, a4, a5⟩, fun c a b => ?_, fun c a b => ?_, fun c a b => ?_, fun c a b => ?_, RS_same (fun j hj => e j (by omega)) hs, RW_same (fun j hj => e j (by omega)) hw, fun p a b => ?_, fun p k a b c d => ?_, fun p k a b c d => ?_, fun p k q j a b c d a' b' c' d' => ?_, fun q a b => ?_, fun c a b => ?_⟩
  · rw [e 0 (by omega), e 1 (by omega)]
    have h1 := hp c a b
    by_cases q : c = colR k
    · subst q; rw [up_eq]; omega
    · rw [e (14 + c) (by omega)]; exact h1
  · rw [e _ (by omega)]; exact hk c a b
  · rw [e 4 (by omega)] at b; rw [e (27 + c) (by omega), e 0 (by omega), e 1 (by omega)]; exact hkc c a b
  · rw [e _ (by omega)]; exact hh c a b
  · rw [e (187 + p) (by omega), e 2 (by omega)]; exact hsz p a b
  · rw [e _ (by omega)]; exact hhd p k a b c d
  · rw [e (187 + p) (by omega)] at d
    have h1 := hsz p a b
    have h2 := hhd p k a b c (by omega)
    rw [e (191 + 5 * p + k) (by omega), e 5 (by omega), e (67 + _) (by omega), e (27 + _) (by omega), e (107 + _) (by omega)]
    exact hown p k a b c d
  · rw [e (187 + p) (by omega)] at d
    rw [e (187 + q) (by omega)] at d'
    have h1 := hsz p a b
    have h2 := hsz q a' b'
    rw [e (191 + 5 * p + k) (by omega), e (191 + 5 * q + j) (by omega)]
    exact hdis p k q j a b c d a' b' c' d'
  · have hc := col_bd ⟨a, b⟩
    have h3 := hcon q a b
    rw [drawnOf_same (e 5 (by omega)) (by omega) (fun c h1 h2 => e _ (by omega)), inHands_same (e 2 (by omega)) (fun c h1 h2 => e _ (by omega)) (fun j h1 h2 => e _ (by omega)) a2.2 (fun p h1 h2 => (hsz p h1 h2).2.1) hhd, e (211 + q) (by omega), if_neg (show ¬ q = -1 by omega)]
    by_cases g : q = k
    · subst g; rw [if_pos (show q = q from rfl), if_neg (by omega)] at h3; rw [up_eq, if_pos (by omega)]; omega
    · rw [if_neg (show ¬ q = k from g)] at h3
      by_cases g2 : colR q = colR k
      · have g3 : rnkR q ≠ rnkR k := fun g3 => g (by have := col_rnk (k := q); have := col_rnk (k := k); omega)
        rw [g2] at h3 ⊢
        rw [up_eq]
        by_cases g4 : rnkR q ≤ r (14 + colR k)
        · rw [if_pos (by omega)] at h3 ⊢; exact h3
        · rw [if_neg (by omega)] at h3 ⊢; exact h3
      · rw [e (14 + colR q) (by omega)]; exact h3
  · rw [e 5 (by omega)] at a; rw [e 4 (by omega)] at b
    rw [e (67 + c) (by omega), e (107 + c) (by omega), e (147 + c) (by omega), e 0 (by omega), e 1 (by omega)]
    exact hund c a b
theorem hasB_full {n k : Int} (hn : 0 ≤ n ∧ n ≤ 5) (hk : 0 ≤ k ∧ k < n) : hasB (2 ^ n.toNat - 1) k := by
  have main : ∀ (n : Fin 6) (k : Fin 5), ((k : Nat) : Int) < ((n : Nat) : Int) → ((2 : Int) ^ ((n : Nat) : Int).toNat - 1) / 2 ^ ((k : Nat) : Int).toNat % 2 = 1 := by decide
  have := main ⟨n.toNat, by omega⟩ ⟨k.toNat, by omega⟩
  simp only [Int.toNat_of_nonneg hn.1, Int.toNat_of_nonneg hk.1] at this
  exact this hk.2
theorem CI_draws {r : Row} (hr : CI r (-1)) {p : Int} (hp0 : 0 ≤ p ∧ p < r 2) (h5 : r (187 + p) < 5) : CI (drawsR r p) (-1) := by
  unfold drawsR
  split
  case isFalse => exact hr
  case isTrue hlt =>
  obtain ⟨⟨a0, a1, a2, a4, a5⟩, hp, hk, hkc, hh, hs, hw, hsz, hhd, hown, hdis, hcon, hund⟩ := hr
  have hsp := hsz p hp0.1 (by omega)
  generalize eY : up (up (up r (191 + 5 * p + r (187 + p)) (r 5)) (187 + p) (r (187 + p) + 1)) 5 (r 5 + 1) = Y
  have e : ∀ j, j ≠ 5 → j ≠ 187 + p → j ≠ 191 + 5 * p + r (187 + p) → Y j = r j := fun j h1 h2 h3 => by rw [← eY, up_ne h1, up_ne h2, up_ne h3]
  have y5 : Y 5 = r 5 + 1 := by rw [← eY, up_eq]
  have ys : Y (187 + p) = r (187 + p) + 1 := by rw [← eY, up_ne (by omega), up_eq]
  have yh : Y (191 + 5 * p + r (187 + p)) = r 5 := by rw [← eY, up_ne (by omega), up_ne (by omega), up_eq]
  have yS : ∀ q, 0 ≤ q → q < 4 → Y (187 + q) = if q = p then r (187 + q) + 1 else r (187 + q) := fun q a b => by
    split
    · next g => subst g; exact ys
    · exact e _ (by omega) (by omega) (by omega)
  have yH : ∀ q k, 0 ≤ q → q < 4 → 0 ≤ k → k < 5 → Y (191 + 5 * q + k) = if q = p ∧ k = r (187 + p) then r 5 else r (191 + 5 * q + k) := fun q k a b c d => by
    split
    · next g => rw [g.1, g.2]; exact yh
    · exact e _ (by omega) (by omega) (by omega)
  have hcard := hkc (r 5) (by omega) hlt
  have hu := hund (r 5) (Int.le_refl _) hlt
  have hkb := hk (r 5) (by omega) (by omega)
  have hcb := col_bd hkb
  have hrb := rnk_bd hkb
  refine ⟨by rw [e 0 (by omega) (by omega) (by omega), e 1 (by omega) (by omega) (by omega), e 2 (by omega) (by omega) (by omega), e 4 (by omega) (by omega) (by omega), y5]; omega, fun c a b => ?_, fun c a b => ?_, fun c a b => ?_, fun c a b => ?_, RS_same (fun j hj => e j (by omega) (by omega) (by omega)) hs, RW_same (fun j hj => e j (by omega) (by omega) (by omega)) hw, fun q a b => ?_, fun q k a b c d => ?_, fun q k a b c d => ?_, fun q k q' j a b c d a' b' c' d' => ?_, fun k a b => ?_, fun c a b => ?_⟩
  · rw [e (14 + c) (by omega) (by omega) (by omega), e 0 (by omega) (by omega) (by omega), e 1 (by omega) (by omega) (by omega)]; exact hp c a b
  · rw [e _ (by omega) (by omega) (by omega)]; exact hk c a b
  · rw [e 4 (by omega) (by omega) (by omega)] at b; rw [e (27 + c) (by omega) (by omega) (by omega), e 0 (by omega) (by omega) (by omega), e 1 (by omega) (by omega) (by omega)]; exact hkc c a b
  · rw [e _ (by omega) (by omega) (by omega)]; exact hh c a b
  · rw [yS q a b, e 2 (by omega) (by omega) (by omega)]
    have := hsz q a b
    split
    · next g => subst g; omega
    · exact this
  · rw [yH q k a b c d]
    have := hhd q k a b c d
    split
    · omega
    · exact this
  · rw [yS q a b] at d
    have h1 := hsz q a b
    have hk5 : k < 5 := by
      split at d
      · next g => subst g; omega
      · omega
    rw [yH q k a b c hk5, y5]
    by_cases g : q = p ∧ k = r (187 + p)
    · rw [if_pos g, e (67 + r 5) (by omega) (by omega) (by omega), e (27 + r 5) (by omega) (by omega) (by omega), e (107 + r 5) (by omega) (by omega) (by omega), hu.1, hu.2.1]
      exact ⟨by omega, hasB_full (by omega) (by omega), hasB_full (by omega) (by omega)⟩
    · rw [if_neg g]
      have hk2 : k < r (187 + q) := by
        split at d
        · next g2 => subst g2; have : k ≠ r (187 + q) := fun g3 => g ⟨rfl, g3⟩; omega
        · exact d
      have h2 := hhd q k a b c hk5
      obtain ⟨o1, o2, o3⟩ := hown q k a b c hk2
      rw [e (67 + _) (by omega) (by omega) (by omega), e (27 + _) (by omega) (by omega) (by omega), e (107 + _) (by omega) (by omega) (by omega)]
      exact ⟨by omega, o2, o3⟩
  · rw [yS q a b] at d
    rw [yS q' a' b'] at d'
    have h1 := hsz q a b
    have h2 := hsz q' a' b'
    have hk5 : k < 5 := by
      split at d
      · next g => subst g; omega
      · omega
    have hj5 : j < 5 := by
      split at d'
      · next g => subst g; omega
      · omega
    rw [yH q k a b c hk5, yH q' j a' b' c' hj5]
    by_cases g : q = p ∧ k = r (187 + p)
    · rw [if_pos g]
      by_cases g' : q' = p ∧ j = r (187 + p)
      · intro _; omega
      · rw [if_neg g']
        have hj2 : j < r (187 + q') := by
          split at d'
          · next g2 => subst g2; have : j ≠ r (187 + q') := fun g3 => g' ⟨rfl, g3⟩; omega
          · exact d'
        have := (hown q' j a' b' c' hj2).1
        intro h; omega
    · rw [if_neg g]
      have hk2 : k < r (187 + q) := by
        split at d
        · next g2 => subst g2; have : k ≠ r (187 + q) := fun g3 => g ⟨rfl, g3⟩; omega
        · exact d
      by_cases g' : q' = p ∧ j = r (187 + p)
      · rw [if_pos g']
        have := (hown q k a b c hk2).1
        intro h; omega
      · rw [if_neg g']
        have hj2 : j < r (187 + q') := by
          split at d'
          · next g2 => subst g2; have : j ≠ r (187 + q') := fun g3 => g' ⟨rfl, g3⟩; omega
          · exact d'
        exact hdis q k q' j a b c hk2 a' b' c' hj2
  · have hc := col_bd ⟨a, b⟩
    have h3 := hcon k a b
    have hd1 : drawnOf Y k = drawnOf r k + (if r (27 + r 5) = k then 1 else 0) := by
      unfold drawnOf
      rw [y5, su_succ (by omega)]
      have e1 : su 0 (r 5) (fun c => if Y (27 + c) = k then 1 else 0) = su 0 (r 5) (fun c => if r (27 + c) = k then 1 else 0) := su_congr fun c h1 h2 => by rw [e (27 + c) (by omega) (by omega) (by omega)]
      rw [e1, e (27 + r 5) (by omega) (by omega) (by omega)]
    have hd2 : inHands Y k (-1) = inHands r k (-1) + (if r (27 + r 5) = k then 1 else 0) := by
      refine inHands_one (e 2 (by omega) (by omega) (by omega)) hp0 ?_ (fun q c1 c2 c3 => ?_)
      · unfold inHandOf
        rw [ys, su_succ (by omega), yh, e (27 + r 5) (by omega) (by omega) (by omega)]
        have e1 : su 0 (r (187 + p)) (fun c => if Y (27 + Y (191 + 5 * p + c)) = k then 1 else 0) = su 0 (r (187 + p)) (fun c => if r (27 + r (191 + 5 * p + c)) = k then 1 else 0) := su_congr fun c h1 h2 => by
          have h6 := hhd p c hp0.1 (by omega) h1 (by omega)
          rw [e (191 + 5 * p + c) (by omega) (by omega) (by omega), e (27 + _) (by omega) (by omega) (by omega)]
        rw [e1]
      · unfold inHandOf
        have h6 := hsz q c1 (by omega)
        rw [yS q c1 (by omega), if_neg c3]
        refine su_congr fun c h1 h2 => ?_
        have h6 := hhd q c c1 (by omega) h1 (by omega)
        rw [e (191 + 5 * q + c) (by omega) (by omega) (by omega), e (27 + _) (by omega) (by omega) (by omega)]
    rw [hd1, hd2, e (211 + k) (by omega) (by omega) (by omega), e (14 + colR k) (by omega) (by omega) (by omega)]
    omega
  · rw [y5] at a; rw [e 4 (by omega) (by omega) (by omega)] at b
    rw [e (67 + c) (by omega) (by omega) (by omega), e (107 + c) (by omega) (by omega) (by omega), e (147 + c) (by omega) (by omega) (by omega), e 0 (by omega) (by omega) (by omega), e 1 (by omega) (by omega) (by omega)]
    exact hund c (by omega) b
theorem CI_word {r : Row} {x w : Int} (hr : CI r x) (hw : 18 ≤ w ∧ w < 27) (h0 : 0 < r w) : CI (up r w (r w - 1)) x := by
  obtain ⟨⟨a0, a1, a2, a4, a5⟩, hp, hk, hkc, hh, hs, hw9, hsz, hhd, hown, hdis, hcon, hund⟩ := hr
  have e : ∀ j, ¬ (18 ≤ j ∧ j < 27) → up r w (r w - 1) j = r j := fun j h1 => up_ne (by omega)
  refine ⟨by rw [e 0 (by omega), e 1 (by omega), e 2 (by omega), e 4 (by omega), e 5 (by omega)]; exact ⟨a0, a1, a2, a4, a5⟩, fun c a b => ?_, fun c a b => ?_, fun c a b => ?_, fun c a b => ?_, RS_same (fun j hj => e j (by omega)) hs, fun q a b => ?_, fun p a b => ?_, fun p k a b c d => ?_, fun p k a b c d => ?_, fun p k q j a b c d a' b' c' d' => ?_, fun k a b => ?_, fun c a b => ?_⟩
  · rw [e (14 + c) (by omega), e 0 (by omega), e 1 (by omega)]; exact hp c a b
  · rw [e _ (by omega)]; exact hk c a b
  · rw [e 4 (by omega)] at b; rw [e (27 + c) (by omega), e 0 (by omega), e 1 (by omega)]; exact hkc c a b
  · rw [e _ (by omega)]; exact hh c a b
  · have h1 := hw9 q a b
    by_cases g : q = w
    · subst g; rw [up_eq]; omega
    · rw [up_ne g]; exact h1
  · rw [e (187 + p) (by omega), e 2 (by omega)]; exact hsz p a b
  · rw [e _ (by omega)]; exact hhd p k a b c d
  · rw [e (187 + p) (by omega)] at d
    have h1 := hsz p a b
    have h2 := hhd p k a b c (by omega)
    rw [e (191 + 5 * p + k) (by omega), e 5 (by omega), e (67 + _) (by omega), e (27 + _) (by omega), e (107 + _) (by omega)]
    exact hown p k a b c d
  · rw [e (187 + p) (by omega)] at d
    rw [e (187 + q) (by omega)] at d'
    have h1 := hsz p a b
    have h2 := hsz q a' b'
    rw [e (191 + 5 * p + k) (by omega), e (191 + 5 * q + j) (by omega)]
    exact hdis p k q j a b c d a' b' c' d'
  · have hc := col_bd ⟨a, b⟩
    rw [drawnOf_same (e 5 (by omega)) (by omega) (fun c h1 h2 => e _ (by omega)), inHands_same (e 2 (by omega)) (fun c h1 h2 => e _ (by omega)) (fun j h1 h2 => e _ (by omega)) a2.2 (fun p h1 h2 => (hsz p h1 h2).2.1) hhd, e (211 + k) (by omega), e (14 + colR k) (by omega)]
    exact hcon k a b
  · rw [e 5 (by omega)] at a; rw [e 4 (by omega)] at b
    rw [e (67 + c) (by omega), e (107 + c) (by omega), e (147 + c) (by omega), e 0 (by omega), e 1 (by omega)]
    exact hund c a b
theorem hasB_andB {s k : Int} (hk : 0 ≤ k ∧ k < 5) (h : hasB s k) : hasB (andB s k) k := by
  unfold andB; rw [ifP_t h]
  have main : ∀ k : Fin 5, ((2 : Int) ^ ((k : Nat) : Int).toNat) / 2 ^ ((k : Nat) : Int).toNat % 2 = 1 := by decide
  have := main ⟨k.toNat, by omega⟩
  simp only [Int.toNat_of_nonneg hk.1] at this
  exact this
theorem hasB_delB {s v k : Int} (hs : 0 ≤ s ∧ s < 32) (hv : 0 ≤ v ∧ v < 5) (hk : 0 ≤ k ∧ k < 5) (hne : k ≠ v) (h : hasB s k) : hasB (delB s v) k := by
  have main : ∀ (s : Fin 32) (v k : Fin 5), k ≠ v → ((s : Nat) : Int) / 2 ^ ((k : Nat) : Int).toNat % 2 = 1 → ((s : Nat) : Int) / 2 ^ ((v : Nat) : Int).toNat % 2 = 1 → (((s : Nat) : Int) - 2 ^ ((v : Nat) : Int).toNat) / 2 ^ ((k : Nat) : Int).toNat % 2 = 1 := by decide +kernel
  unfold delB
  by_cases e : hasB s v
  · rw [ifP_t e]
    have := main ⟨s.toNat, by omega⟩ ⟨v.toNat, by omega⟩ ⟨k.toNat, by omega⟩ (fun q => hne (by have := congrArg Fin.val q; simp only at this; omega))
    simp only [Int.toNat_of_nonneg hs.1, Int.toNat_of_nonneg hv.1, Int.toNat_of_nonneg hk.1] at this
    exact this h e
  · rw [ifP_f e]; exact h
/-- a card's sets change as a hint says -/
theorem CI_set {r r' : Row} {x c w v : Int} (hr : CI r x) (hc : 0 ≤ c ∧ c < r 5) (hwv : wordOK w v) (e : ∀ j, j ≠ 67 + c → j ≠ 107 + c → j ≠ 147 + c → r' j = r j)
    (e1 : r' (67 + c) = colBehind r c w v) (e2 : r' (107 + c) = rnkBehind r c w v) (e3 : r' (147 + c) = r (147 + c) ∨ r' (147 + c) = 1) : CI r' x := by
  obtain ⟨⟨a0, a1, a2, a4, a5⟩, hp, hk, hkc, hh, hs, hw, hsz, hhd, hown, hdis, hcon, hund⟩ := hr
  have e9 : ∀ j, (j < 67 ∨ 187 ≤ j) → r' j = r j := fun j h => e j (by omega) (by omega) (by omega)
  have hkb := hk c hc.1 (by omega)
  have hcb := col_bd hkb
  have hrb := rnk_bd hkb
  have hsc := hs c hc.1 (by omega)
  have b1 := colBehind_bd hs (c := c) (word := w) (value := v) (by omega)
  have b2 := rnkBehind_bd hs (c := c) (word := w) (value := v) (by omega)
  refine ⟨by rw [e9 0 (by omega), e9 1 (by omega), e9 2 (by omega), e9 4 (by omega), e9 5 (by omega)]; exact ⟨a0, a1, a2, a4, a5⟩, fun c a b => ?_, fun c a b => ?_, fun c a b => ?_, fun c a b => ?_, fun i a b => ?_, RW_same (fun j hj => e9 j (by omega)) hw, fun p a b => ?_, fun p k a b c d => ?_, fun p k a b c' d => ?_, fun p k q j a b c d a' b' c' d' => ?_, fun k a b => ?_, fun i a b => ?_⟩
  · rw [e9 (14 + c) (by omega), e9 0 (by omega), e9 1 (by omega)]; exact hp c a b
  · rw [e9 _ (by omega)]; exact hk c a b
  · rw [e9 4 (by omega)] at b; rw [e9 (27 + c) (by omega), e9 0 (by omega), e9 1 (by omega)]; exact hkc c a b
  · rw [e9 _ (by omega)]; exact hh c a b
  · by_cases g : i = c
    · subst g; rw [e1, e2]; refine ⟨b1, b2, ?_⟩; rcases e3 with e3 | e3 <;> omega
    · rw [e (67 + i) (by omega) (by omega) (by omega), e (107 + i) (by omega) (by omega) (by omega), e (147 + i) (by omega) (by omega) (by omega)]; exact hs i a b
  · rw [e9 (187 + p) (by omega), e9 2 (by omega)]; exact hsz p a b
  · rw [e9 _ (by omega)]; exact hhd p k a b c d
  · rw [e9 (187 + p) (by omega)] at d
    have h1 := hsz p a b
    have h2 := hhd p k a b c' (by omega)
    obtain ⟨o1, o2, o3⟩ := hown p k a b c' d
    rw [e9 (191 + 5 * p + k) (by omega), e9 5 (by omega)]
    generalize r (191 + 5 * p + k) = i at *
    rw [e9 (27 + i) (by omega)]
    by_cases g : i = c
    · subst g
      rw [e1, e2]
      unfold wordOK at hwv
      refine ⟨o1, ?_, ?_⟩
      · unfold colBehind touchBy
        by_cases w0 : w = 0
        · rw [if_pos w0, if_pos w0]
          by_cases t : colR (r (27 + i)) = v
          · rw [ifP_t t]; subst t; exact hasB_andB (by omega) o2
          · rw [ifP_f t]; exact hasB_delB (by omega) (by omega) (by omega) t o2
        · rw [if_neg w0]; exact o2
      · unfold rnkBehind touchBy
        by_cases w0 : w = 1
        · rw [if_pos w0, if_neg (by omega)]
          by_cases t : rnkR (r (27 + i)) = v
          · rw [ifP_t t]; subst t; exact hasB_andB (by omega) o3
          · rw [ifP_f t]; exact hasB_delB (by omega) (by omega) (by omega) (by omega) o3
        · rw [if_neg w0]; exact o3
    · rw [e (67 + i) (by omega) (by omega) (by omega), e (107 + i) (by omega) (by omega) (by omega)]; exact ⟨o1, o2, o3⟩
  · rw [e9 (187 + p) (by omega)] at d
    rw [e9 (187 + q) (by omega)] at d'
    have h1 := hsz p a b
    have h2 := hsz q a' b'
    rw [e9 (191 + 5 * p + k) (by omega), e9 (191 + 5 * q + j) (by omega)]
    exact hdis p k q j a b c d a' b' c' d'
  · have hc := col_bd ⟨a, b⟩
    rw [drawnOf_same (e9 5 (by omega)) (by omega) (fun c h1 h2 => e9 _ (by omega)), inHands_same (e9 2 (by omega)) (fun c h1 h2 => e9 _ (by omega)) (fun j h1 h2 => e9 _ (by omega)) a2.2 (fun p h1 h2 => (hsz p h1 h2).2.1) hhd, e9 (211 + k) (by omega), e9 (14 + colR k) (by omega)]
    exact hcon k a b
  · rw [e9 5 (by omega)] at a; rw [e9 4 (by omega)] at b
    rw [e (67 + i) (by omega) (by omega) (by omega), e (107 + i) (by omega) (by omega) (by omega), e (147 + i) (by omega) (by omega) (by omega), e9 0 (by omega), e9 1 (by omega)]
    exact hund i a b
theorem CI_hintN {r : Row} {x p w v : Int} (hr : CI r x) (hp : 0 ≤ p ∧ p < 4) (hwv : wordOK w v) {n : Nat} (hn : (n : Int) ≤ r (187 + p)) : CI (hintN p w v n r) x := by
  induction n with
  | zero => exact hr
  | succ n ih =>
    have ih' := ih (by omega)
    have hsz := hr.2.2.2.2.2.2.2.1 p hp.1 hp.2
    have hhd := hr.2.2.2.2.2.2.2.2.1
    have hc9 : ∀ k : Int, 0 ≤ k → k < n → 0 ≤ r (191 + 5 * p + k) ∧ r (191 + 5 * p + k) < 40 := fun k a b => hhd p k hp.1 hp.2 a (by omega)
    have hat := fun j hj => hintN_at (w := w) (v := v) (j := j) hc9 hp.1 hj
    have hown := (hr.2.2.2.2.2.2.2.2.2.1 p n hp.1 hp.2 (by omega) (by omega)).1
    have hh := hhd p n hp.1 hp.2 (by omega) (by omega)
    unfold hintN
    dsimp only
    rw [hat (191 + 5 * p + n) (by omega)]
    have e5 := hat 5 (by omega)
    generalize hintN p w v n r = s at *
    generalize r (191 + 5 * p + n) = c at *
    by_cases t : touchBy s c w v
    · rw [ifP_t t]
      exact CI_set ih' (c := c) ⟨hh.1, by omega⟩ hwv (fun j h1 h2 h3 => by rw [up_ne h3, up_ne h1, up_ne h2]) (by rw [up_ne (by omega), up_eq]) (by rw [up_ne (by omega), up_ne (by omega), up_eq]) (Or.inr up_eq)
    · rw [ifP_f t]
      exact CI_set ih' (c := c) ⟨hh.1, by omega⟩ hwv (fun j h1 h2 h3 => by rw [up_ne h1, up_ne h2]) up_eq (by rw [up_ne (by omega), up_eq]) (Or.inl (by rw [up_ne (by omega), up_ne (by omega)]))
/-- how many turns can come -/
def Phi (r : Row) : Int := if r 9 = -1 then 2 * (r 4 - r 5) + r 7 + r 2 + 1 else r 9
def GI (r : Row) : Prop :=
  CI r (-1) ∧ (0 ≤ r 10 ∧ r 10 < 4 ∧ (0 < r 2 → r 10 < r 2)) ∧ (0 ≤ r 6 ∧ r 6 ≤ 9) ∧ (0 ≤ r 7 ∧ r 7 ≤ r 6) ∧ (0 ≤ r 8 ∧ r 8 ≤ 5) ∧ (-1 ≤ r 9 ∧ r 9 ≤ r 2) ∧
  (r 12 = if r 2 = 0 then 3 else overR r) ∧ (0 ≤ r 13 ∧ r 13 + Phi r ≤ 100) ∧ (0 < r 2 → r 9 = -1 → r 5 < r 4) ∧ (0 < r 2 → 1 ≤ r 0 ∧ 1 ≤ r 1 ∧ 2 ≤ r 2 ∧ 1 ≤ r 3 ∧ r 3 ≤ 5) ∧
  (0 < r 2 → r 9 = -1 → ∀ p, 0 ≤ p → p < r 2 → r (187 + p) = r 3) ∧ (∀ p, 0 ≤ p → p < 4 → r (187 + p) ≤ r 3)
theorem overR_bd {r : Row} : 0 ≤ overR r ∧ overR r ≤ 3 := by
  unfold overR ifP
  split
  · omega
  · split
    · omega
    · split <;> omega
theorem Phi_nn {r : Row} (h : GI r) : 0 ≤ Phi r := by
  have h1 := h.1.1
  have h2 := h.2.2.2.1
  unfold Phi
  obtain ⟨-, -, -, -, -, h9, -⟩ := h
  split <;> omega
theorem GI.rb {r : Row} (h : GI r) : RB r := by
  have hph := Phi_nn h
  obtain ⟨hc, h10, h6, h7, h8, h9, h12, h13, hl, hz, hs, hs2⟩ := h
  have h2 := hc.1.2.2.1
  have hov := overR_bd (r := r)
  have e12 : 0 ≤ r 12 ∧ r 12 ≤ 3 := by rw [h12]; split <;> omega
  refine ⟨hc.rk, hc.rhd (by omega), hc.2.2.2.2.2.1, hc.2.2.2.2.2.2.1, hc.1.2.2.2.2, h6, h7, h8, by omega, e12, by omega, fun q => ?_⟩
  rw [h12] at q
  split at q
  · omega
  · omega
/-- the end of a turn -/
theorem GI_fin {r r1 : Row} {B : Int} (c1 : CI r1 (-1)) (same : ∀ j, j < 14 → j ≠ 5 → r1 j = r j) (h10 : 0 ≤ r 10 ∧ r 10 < r 2) (h6 : 0 ≤ r 6 ∧ r 6 ≤ 9) (h7 : 0 ≤ r 7 ∧ r 7 ≤ r 6) (h8 : 0 ≤ r 8 ∧ r 8 ≤ 5)
    (h9 : r 9 = -1 ∨ (1 ≤ r 9 ∧ r 9 ≤ r 2)) (h13 : 0 ≤ r 13) (hl : r 9 = -1 → r 5 < r 4) (hz : 1 ≤ r 0 ∧ 1 ≤ r 1 ∧ 2 ≤ r 2 ∧ 1 ≤ r 3 ∧ r 3 ≤ 5)
    (hs : r 9 = -1 → ∀ p, 0 ≤ p → p < r 2 → r1 (187 + p) = r 3) (hs2 : ∀ p, 0 ≤ p → p < 4 → r1 (187 + p) ≤ r 3) (hB : B ≤ 100)
    (hP : (r 9 = -1 → r 13 + 2 * (r 4 - r1 5) + r 7 + r 2 + 1 ≤ B) ∧ (r 9 ≠ -1 → r 13 + r 9 ≤ B + 1)) :
    GI (up (endTurn (endLeft r r1)) 12 (overR (endTurn (endLeft r r1)))) ∧ up (endTurn (endLeft r r1)) 12 (overR (endTurn (endLeft r r1))) 13 = r 13 ∧ r 13 + Phi (up (endTurn (endLeft r r1)) 12 (overR (endTurn (endLeft r r1)))) ≤ B := by
  have e9 : ∀ j, j ≠ 9 → endLeft r r1 j = r1 j := fun j hj => by
    unfold endLeft
    split
    · exact up_ne hj
    · split
      · exact up_ne hj
      · rfl
  generalize eZ : up (endTurn (endLeft r r1)) 12 (overR (endTurn (endLeft r r1))) = Z
  have z : ∀ j, j ≠ 9 → j ≠ 10 → j ≠ 11 → j ≠ 12 → Z j = r1 j := fun j h1 h2 h3 h4 => by rw [← eZ, up_ne h4]; unfold endTurn; rw [up_ne h2, up_ne h3, e9 j h1]
  have z9 : Z 9 = endLeft r r1 9 := by rw [← eZ, up_ne (by omega)]; unfold endTurn; rw [up_ne (by omega), up_ne (by omega)]
  have z10 : Z 10 = (r 10 + 1) % r 2 := by rw [← eZ, up_ne (by omega)]; unfold endTurn; rw [up_eq, e9 10 (by omega), e9 2 (by omega), same 10 (by omega) (by omega), same 2 (by omega) (by omega)]
  have z12 : Z 12 = overR Z := by
    rw [← eZ, up_eq]
    unfold overR wholeR
    rw [up_ne (show (8 : Int) ≠ 12 by omega), up_ne (show (9 : Int) ≠ 12 by omega), up_ne (show (0 : Int) ≠ 12 by omega), up_ne (show (1 : Int) ≠ 12 by omega)]
    have : (∀ c : Int, 0 ≤ c → c < endTurn (endLeft r r1) 0 → endTurn (endLeft r r1) 1 ≤ endTurn (endLeft r r1) (14 + c)) ↔ (∀ c : Int, 0 ≤ c → c < endTurn (endLeft r r1) 0 → endTurn (endLeft r r1) 1 ≤ up (endTurn (endLeft r r1)) 12 (if endTurn (endLeft r r1) 8 = 0 then 1 else ifP (∀ c : Int, 0 ≤ c → c < endTurn (endLeft r r1) 0 → endTurn (endLeft r r1) 1 ≤ endTurn (endLeft r r1) (14 + c)) 2 (if endTurn (endLeft r r1) 9 = 0 then 3 else 0)) (14 + c)) :=
      ⟨fun q c a b => by rw [up_ne (by omega)]; exact q c a b, fun q c a b => by have := q c a b; rw [up_ne (by omega)] at this; exact this⟩
    rw [← propext this]
  have c1b := c1.1
  have s0 := same 0 (by omega) (by omega)
  have s1 := same 1 (by omega) (by omega)
  have s2 := same 2 (by omega) (by omega)
  have s3 := same 3 (by omega) (by omega)
  have s4 := same 4 (by omega) (by omega)
  have s6 := same 6 (by omega) (by omega)
  have s7 := same 7 (by omega) (by omega)
  have s8 := same 8 (by omega) (by omega)
  have s9 := same 9 (by omega) (by omega)
  have s13 := same 13 (by omega) (by omega)
  have y0 := z 0 (by omega) (by omega) (by omega) (by omega)
  have y1 := z 1 (by omega) (by omega) (by omega) (by omega)
  have y2 := z 2 (by omega) (by omega) (by omega) (by omega)
  have y3 := z 3 (by omega) (by omega) (by omega) (by omega)
  have y4 := z 4 (by omega) (by omega) (by omega) (by omega)
  have y5 := z 5 (by omega) (by omega) (by omega) (by omega)
  have y6 := z 6 (by omega) (by omega) (by omega) (by omega)
  have y7 := z 7 (by omega) (by omega) (by omega) (by omega)
  have y8 := z 8 (by omega) (by omega) (by omega) (by omega)
  have y13 := z 13 (by omega) (by omega) (by omega) (by omega)
  have hm := Int.emod_nonneg (r 10 + 1) (show r 2 ≠ 0 by omega)
  have hm2 := Int.emod_lt_of_pos (r 10 + 1) (show 0 < r 2 by omega)
  have el : (r 9 ≠ -1 ∧ Z 9 = r 9 - 1) ∨ (r 9 = -1 ∧ r1 5 = r 4 ∧ Z 9 = r 2) ∨ (r 9 = -1 ∧ r1 5 < r 4 ∧ Z 9 = -1) := by
    rw [z9]; unfold endLeft
    rw [s9]
    by_cases q : r 9 = -1
    · rw [if_neg (fun q2 => q2 q)]
      have := hl q
      by_cases q2 : r 5 < r1 5 ∧ r1 5 = r1 4
      · rw [if_pos q2, up_eq]; exact Or.inr (Or.inl ⟨q, by omega, s2⟩)
      · rw [if_neg q2]; exact Or.inr (Or.inr ⟨q, by omega, by rw [s9]; exact q⟩)
    · rw [if_pos q, up_eq]; exact Or.inl ⟨q, rfl⟩
  have hphi : r 13 + Phi Z ≤ B := by
    unfold Phi
    rcases el with ⟨q, q1⟩ | ⟨q, q1, q2⟩ | ⟨q, q1, q2⟩
    · have := hP.2 q; rw [if_neg (by omega)]; omega
    · have := hP.1 q; rw [if_neg (by omega)]; omega
    · have := hP.1 q; rw [if_pos q2]; omega
  refine ⟨⟨CI_same (fun j hj => z j (by omega) (by omega) (by omega) (by omega)) c1, by rw [z10, y2]; omega, by omega, by omega, by omega, by omega, by rw [z12, if_neg (by omega)], by omega, fun _ q => by omega, fun _ => by omega, fun _ q p a b => ?_, fun p a b => ?_⟩, by omega, hphi⟩
  · rw [z (187 + p) (by omega) (by omega) (by omega) (by omega), y3, s3]
    exact hs (by omega) p a (by omega)
  · rw [z (187 + p) (by omega) (by omega) (by omega) (by omega), y3, s3]
    exact hs2 p a b
theorem drawsR_at {r : Row} {p j : Int} (hp : 0 ≤ p ∧ p < 4) (hs : 0 ≤ r (187 + p) ∧ r (187 + p) ≤ 5) (hj : j < 187 ∨ 212 ≤ j) (h5 : j ≠ 5) : drawsR r p j = r j := by
  unfold drawsR
  split
  · rw [up_ne h5, up_ne (by omega), up_ne (by omega)]
  · rfl
/-- a turn that takes a card out, from the row behind that -/
theorem GI_mid {r r4 : Row} (h : GI r) (h12 : r 12 = 0) {x : Int} (hx : 0 ≤ x ∧ x < r (187 + r 10)) (c4 : CI r4 (-1)) (same : ∀ j, j < 14 → j ≠ 7 → j ≠ 8 → j ≠ 13 → r4 j = r j) (e13 : r4 13 = r 13 + 1) (e7 : r4 7 = r 7 ∨ (r4 7 = r 7 + 1 ∧ r 7 < r 6)) (e8 : 0 ≤ r4 8 ∧ r4 8 ≤ 5)
    (hsz : ∀ p, 0 ≤ p → p < 4 → r4 (187 + p) = if p = r 10 then r (187 + p) - 1 else r (187 + p)) : GI (endsR r4 True) ∧ endsR r4 True 13 = r 13 + 1 ∧ endsR r4 True 13 + Phi (endsR r4 True) ≤ r 13 + Phi r := by
  have hph := Phi_nn h
  obtain ⟨hc, h10, h6, h7, h8, h9, h12', h13, hl, hz, hs, hs2⟩ := h
  have h2 : 0 < r 2 := by
    rw [h12] at h12'; have := hc.1.2.2.1
    split at h12' <;> omega
  have hov : r 8 ≠ 0 ∧ r 9 ≠ 0 := by
    rw [h12, if_neg (show ¬ r 2 = 0 by omega)] at h12'
    unfold overR at h12'
    by_cases q : r 8 = 0
    · rw [if_pos q] at h12'; omega
    · rw [if_neg q] at h12'
      refine ⟨q, fun q9 => ?_⟩
      rw [if_pos q9] at h12'
      unfold ifP at h12'
      split at h12' <;> omega
  have s0 := same 0 (by omega) (by omega) (by omega) (by omega)
  have s1 := same 1 (by omega) (by omega) (by omega) (by omega)
  have s2 := same 2 (by omega) (by omega) (by omega) (by omega)
  have s3 := same 3 (by omega) (by omega) (by omega) (by omega)
  have s4 := same 4 (by omega) (by omega) (by omega) (by omega)
  have s5 := same 5 (by omega) (by omega) (by omega) (by omega)
  have s6 := same 6 (by omega) (by omega) (by omega) (by omega)
  have s9 := same 9 (by omega) (by omega) (by omega) (by omega)
  have s10 := same 10 (by omega) (by omega) (by omega) (by omega)
  have ht := hsz (r 10) h10.1 h10.2.1
  rw [if_pos rfl] at ht
  have h187 := hc.2.2.2.2.2.2.2.1 (r 10) h10.1 h10.2.1
  have hcb := hc.1
  have hz' := hz h2
  have hl' := hl h2
  have hs' := hs h2
  have d5 : drawsR r4 (r4 10) 5 = r 5 + 1 ∧ r 5 < r 4 ∨ drawsR r4 (r4 10) 5 = r 5 ∧ r 5 = r 4 := by
    unfold drawsR
    by_cases q : r4 5 < r4 4
    · rw [if_pos q, up_eq]; exact Or.inl (by omega)
    · rw [if_neg q]; exact Or.inr (by omega)
  have dS : ∀ p, 0 ≤ p → p < 4 → drawsR r4 (r4 10) (187 + p) ≤ r (187 + p) ∧ (r 5 < r 4 → drawsR r4 (r4 10) (187 + p) = r (187 + p)) := fun p a b => by
    have h1 := hsz p a b
    unfold drawsR
    by_cases q : r4 5 < r4 4
    · rw [if_pos q, up_ne (by omega)]
      by_cases q2 : p = r 10
      · subst q2; rw [s10, up_eq]; omega
      · rw [s10, up_ne (by omega), up_ne (by omega), h1, if_neg q2]; omega
    · rw [if_neg q, h1]
      constructor
      · split <;> omega
      · omega
  have key := GI_fin (r := r4) (r1 := drawsR r4 (r4 10)) (B := r 13 + Phi r) (CI_draws c4 (by omega) (by rw [s10]; omega)) (fun j a b => drawsR_at (by omega) (by rw [s10]; omega) (by omega) b) (by omega) (by omega) (by omega) e8 (by omega) (by omega) (by omega) (by omega) (fun q p a b => by
      have := hs' (by omega) p a (by omega)
      have := (dS p a (by omega)).2 (hl' (by omega))
      omega) (fun p a b => by have := (dS p a b).1; have := hs2 p a b; omega) (by omega) (by
      unfold Phi
      refine ⟨fun q => ?_, fun q => ?_⟩
      · have := hl' (by omega); rw [if_pos (by omega)]; omega
      · rw [if_neg (by omega)]; omega)
  unfold endsR
  dsimp only
  rw [ifP_t trivial]
  obtain ⟨k1, k2, k3⟩ := key
  exact ⟨k1, by omega, by omega⟩
theorem over0 {r : Row} (h : GI r) (h12 : r 12 = 0) : 0 < r 2 ∧ r 8 ≠ 0 ∧ r 9 ≠ 0 := by
  obtain ⟨hc, h10, h6, h7, h8, h9, h12', h13, hl, hz, hs, hs2⟩ := h
  have h2 : 0 < r 2 := by
    rw [h12] at h12'; have := hc.1.2.2.1
    split at h12' <;> omega
  refine ⟨h2, ?_⟩
  rw [h12, if_neg (show ¬ r 2 = 0 by omega)] at h12'
  unfold overR at h12'
  by_cases q : r 8 = 0
  · rw [if_pos q] at h12'; omega
  · rw [if_neg q] at h12'
    refine ⟨q, fun q9 => ?_⟩
    rw [if_pos q9] at h12'
    unfold ifP at h12'
    split at h12' <;> omega
/-- the row behind a log entry and a card taken out -/
theorem GI_takes {r : Row} (h : GI r) (h12 : r 12 = 0) {x a b c : Int} (hx : 0 ≤ x ∧ x < r (187 + r 10)) :
    CI (takesOutR (logsR r a b c) x) (kindAt r (r 10) x) ∧ (0 ≤ kindAt r (r 10) x ∧ kindAt r (r 10) x < 20 ∧ colR (kindAt r (r 10) x) < r 0 ∧ rnkR (kindAt r (r 10) x) ≤ r 1) ∧ (∀ j, (j < 187 ∨ (211 ≤ j ∧ j < 238)) → j ≠ 13 → takesOutR (logsR r a b c) x j = r j) ∧ takesOutR (logsR r a b c) x 13 = r 13 + 1 ∧
    (∀ p, 0 ≤ p → p < 4 → takesOutR (logsR r a b c) x (187 + p) = if p = r 10 then r (187 + p) - 1 else r (187 + p)) := by
  have h2 := over0 h h12
  obtain ⟨hc, h10, h6, h7, h8, h9, h12', h13, hl, hz, hs, hs2⟩ := h
  have hq := hc.rhd (show 0 ≤ r 10 ∧ r 10 < 4 by omega)
  have hs10 := hc.2.2.2.2.2.2.2.1 (r 10) h10.1 h10.2.1
  have el : ∀ j, j < 238 → j ≠ 13 → logsR r a b c j = r j := fun j h1 h2 => logs_at h13.1 h1 h2
  have cl : CI (logsR r a b c) (-1) := CI_same (fun j hj => el j (by omega) (by omega)) hc
  have l10 := el 10 (by omega) (by omega)
  have l2 := el 2 (by omega) (by omega)
  have l187 := el (187 + r 10) (by omega) (by omega)
  have ct := CI_takes cl (by rw [l10, l2]; omega) (x := x) (by rw [l10, l187]; exact hx)
  rw [kindAt_logs h13.1 hq (by omega)] at ct
  have hh := hc.2.2.2.2.2.2.2.2.1 (r 10) x h10.1 h10.2.1 hx.1 (by omega)
  have ho := (hc.2.2.2.2.2.2.2.2.2.1 (r 10) x h10.1 h10.2.1 hx.1 hx.2).1
  have hcb := hc.1
  have hk1 := hc.2.2.1 _ hh.1 hh.2
  have hk2 := hc.2.2.2.1 _ hh.1 (by omega)
  have et : ∀ j, (j < 187 ∨ 211 ≤ j) → takesOutR (logsR r a b c) x j = logsR r a b c j := fun j hj => takes_at (by rw [l10]; omega) (by rw [l10, l187]; omega) hx.1 hj
  refine ⟨ct, ⟨hk1.1, hk1.2, hk2.1, hk2.2⟩, fun j h1 h2 => (et j (by omega)).trans (el j (by omega) h2), ?_, fun p a' b' => ?_⟩
  · rw [et 13 (by omega)]; unfold logsR; rw [up_eq]
  · unfold takesOutR
    rw [l10, el (187 + p) (by omega) (by omega)]
    by_cases q : p = r 10
    · rw [if_pos (by omega), if_pos q]
    · rw [if_neg (by omega), if_neg (by omega), if_neg q]
theorem GI_plays {r : Row} (h : GI r) (h12 : r 12 = 0) {x : Int} (hx : 0 ≤ x ∧ x < r (187 + r 10)) : GI (playsR r x) ∧ playsR r x 13 = r 13 + 1 ∧ playsR r x 13 + Phi (playsR r x) ≤ r 13 + Phi r := by
  have h2 := over0 h h12
  have h8 := h.2.2.2.2.1
  have h7 := h.2.2.2.1
  have h10 := h.2.1
  unfold playsR
  dsimp only
  generalize ek : kindAt r (r 10) x = k at *
  by_cases hn : nextR r k
  · rw [ifP_t hn]
    obtain ⟨ct, hk, et, e13, eS⟩ := GI_takes h h12 (a := 0) (b := toldR k) (c := -1) hx
    rw [ek] at ct hk
    generalize takesOutR (logsR r 0 (toldR k) (-1)) x = r2 at *
    have hcb := col_bd ⟨hk.1, hk.2.1⟩
    have f0 := et 0 (by omega) (by omega)
    have f1 := et 1 (by omega) (by omega)
    have fc := et (14 + colR k) (by omega) (by omega)
    have cp := CI_pile ct ⟨hk.1, hk.2.1⟩ (by unfold nextR at hn ⊢; rw [fc]; exact hn) (by omega) (by omega)
    generalize eY : up (up r2 (14 + colR k) (r2 (14 + colR k) + 1)) 231 (r2 231 + 1) = Y
    have cy : CI Y (-1) := CI_same (fun j hj => by rw [← eY, up_ne (by omega)]) cp
    have ey : ∀ j, j < 14 → Y j = r2 j := fun j hj => by rw [← eY, up_ne (by omega), up_ne (by omega)]
    have eyS : ∀ p, 0 ≤ p → p < 4 → Y (187 + p) = if p = r 10 then r (187 + p) - 1 else r (187 + p) := fun p a b => by rw [← eY, up_ne (by omega), up_ne (by omega)]; exact eS p a b
    have t6 := et 6 (by omega) (by omega)
    have t7 := et 7 (by omega) (by omega)
    have t8 := et 8 (by omega) (by omega)
    by_cases q : rnkR k = r 1
    · rw [if_pos q]
      refine GI_mid h h12 hx (CI_same (fun j hj => tokenBack_at (by omega) (by omega)) cy) (fun j a b c d => (tokenBack_at b (by omega)).trans ((ey j a).trans (et j (by omega) d))) ((tokenBack_at (by omega) (by omega)).trans ((ey 13 (by omega)).trans e13)) ?_ ?_ (fun p a b => (tokenBack_at (by omega) (by omega)).trans (eyS p a b))
      · unfold tokenBackR
        rw [ey 7 (by omega), ey 6 (by omega), t7, t6]
        split
        · rw [up_ne (by omega), up_eq]; exact Or.inr ⟨rfl, by assumption⟩
        · rw [ey 7 (by omega), t7]; exact Or.inl rfl
      · rw [tokenBack_at (by omega) (by omega), ey 8 (by omega), t8]; exact h8
    · rw [if_neg q]
      refine GI_mid h h12 hx cy (fun j a b c d => (ey j a).trans (et j (by omega) d)) ((ey 13 (by omega)).trans e13) (Or.inl ?_) ?_ eyS
      · rw [ey 7 (by omega), t7]
      · rw [ey 8 (by omega), t8]; exact h8
  · rw [ifP_f hn]
    obtain ⟨ct, hk, et, e13, eS⟩ := GI_takes h h12 (a := 4) (b := toldR k) (c := -1) hx
    rw [ek] at ct hk
    generalize takesOutR (logsR r 4 (toldR k) (-1)) x = r2 at *
    have ch := CI_toHeap ct ⟨hk.1, hk.2.1⟩
    have eh : ∀ j, (j < 211 ∨ 231 ≤ j) → j ≠ 237 → toHeapR r2 k j = r2 j := fun j a b => toHeap_at b (by omega)
    have t8 := et 8 (by omega) (by omega)
    refine GI_mid h h12 hx (CI_same (fun j hj => by rw [up_ne (by omega), up_ne (by omega)]) ch) (fun j a b c d => by rw [up_ne (by omega), up_ne c, eh j (by omega) (by omega)]; exact et j (by omega) d) (by rw [up_ne (by omega), up_ne (by omega), eh 13 (by omega) (by omega)]; exact e13) (Or.inl (by rw [up_ne (by omega), up_ne (by omega), eh 7 (by omega) (by omega)]; exact et 7 (by omega) (by omega))) (by rw [up_ne (by omega), up_eq, eh 8 (by omega) (by omega), t8]; omega) (fun p a b => by rw [up_ne (by omega), up_ne (by omega), eh _ (by omega) (by omega)]; exact eS p a b)
theorem GI_discards {r : Row} (h : GI r) (h12 : r 12 = 0) {x : Int} (hx : 0 ≤ x ∧ x < r (187 + r 10)) : GI (discardsR r x) ∧ discardsR r x 13 = r 13 + 1 ∧ discardsR r x 13 + Phi (discardsR r x) ≤ r 13 + Phi r := by
  have h8 := h.2.2.2.2.1
  unfold discardsR
  dsimp only
  generalize ek : kindAt r (r 10) x = k at *
  obtain ⟨ct, hk, et, e13, eS⟩ := GI_takes h h12 (a := 1) (b := toldR k) (c := -1) hx
  rw [ek] at ct hk
  generalize takesOutR (logsR r 1 (toldR k) (-1)) x = r2 at *
  have ch := CI_toHeap ct ⟨hk.1, hk.2.1⟩
  have eh : ∀ j, (j < 211 ∨ 231 ≤ j) → j ≠ 237 → j ≠ 233 → up (toHeapR r2 k) 233 (toHeapR r2 k 233 + 1) j = r2 j := fun j a b c => by rw [up_ne c, toHeap_at b (by omega)]
  have cy : CI (up (toHeapR r2 k) 233 (toHeapR r2 k 233 + 1)) (-1) := CI_same (fun j hj => up_ne (by omega)) ch
  generalize up (toHeapR r2 k) 233 (toHeapR r2 k 233 + 1) = Y at *
  have t6 := et 6 (by omega) (by omega)
  have t7 := et 7 (by omega) (by omega)
  have t8 := et 8 (by omega) (by omega)
  refine GI_mid h h12 hx (CI_same (fun j hj => tokenBack_at (by omega) (by omega)) cy) (fun j a b c d => (tokenBack_at b (by omega)).trans ((eh j (by omega) (by omega) (by omega)).trans (et j (by omega) d))) ((tokenBack_at (by omega) (by omega)).trans ((eh 13 (by omega) (by omega) (by omega)).trans e13)) ?_ ?_ (fun p a b => (tokenBack_at (by omega) (by omega)).trans ((eh _ (by omega) (by omega) (by omega)).trans (eS p a b)))
  · unfold tokenBackR
    rw [eh 7 (by omega) (by omega) (by omega), eh 6 (by omega) (by omega) (by omega), t7, t6]
    split
    · rw [up_ne (by omega), up_eq]; exact Or.inr ⟨rfl, by assumption⟩
    · rw [eh 7 (by omega) (by omega) (by omega), t7]; exact Or.inl rfl
  · rw [tokenBack_at (by omega) (by omega), eh 8 (by omega) (by omega) (by omega), t8]; exact h8
/-- a turn that takes no card -/
theorem GI_mid0 {r r4 : Row} (h : GI r) (h12 : r 12 = 0) (c4 : CI r4 (-1)) (same : ∀ j, j < 14 → j ≠ 7 → j ≠ 13 → r4 j = r j) (e13 : r4 13 = r 13 + 1) (e7 : 0 ≤ r4 7 ∧ r4 7 ≤ r 7) (hdec : r4 7 < r 7 ∨ r 9 ≠ -1) (hsz : ∀ p, 0 ≤ p → p < 4 → r4 (187 + p) = r (187 + p)) : GI (endsR r4 False) ∧ endsR r4 False 13 = r 13 + 1 ∧ endsR r4 False 13 + Phi (endsR r4 False) ≤ r 13 + Phi r := by
  have hph := Phi_nn h
  have hov := over0 h h12
  obtain ⟨hc, h10, h6, h7, h8, h9, h12', h13, hl, hz, hs, hs2⟩ := h
  have s0 := same 0 (by omega) (by omega) (by omega)
  have s1 := same 1 (by omega) (by omega) (by omega)
  have s2 := same 2 (by omega) (by omega) (by omega)
  have s3 := same 3 (by omega) (by omega) (by omega)
  have s4 := same 4 (by omega) (by omega) (by omega)
  have s5 := same 5 (by omega) (by omega) (by omega)
  have s6 := same 6 (by omega) (by omega) (by omega)
  have s8 := same 8 (by omega) (by omega) (by omega)
  have s9 := same 9 (by omega) (by omega) (by omega)
  have s10 := same 10 (by omega) (by omega) (by omega)
  have hcb := hc.1
  have hz' := hz hov.1
  have hl' := hl hov.1
  have hs' := hs hov.1
  have key := GI_fin (r := r4) (r1 := r4) (B := r 13 + Phi r) c4 (fun j a b => rfl) (by omega) (by omega) (by omega) (by omega) (by omega) (by omega) (by omega) (by omega) (fun q p a b => by rw [hsz p a (by omega), s3]; exact hs' (by omega) p a (by omega)) (fun p a b => by rw [hsz p a b, s3]; exact hs2 p a b) (by omega) (by
      unfold Phi
      refine ⟨fun q => ?_, fun q => ?_⟩
      · rw [if_pos (by omega)]; omega
      · rw [if_neg (by omega)]; omega)
  unfold endsR
  dsimp only
  rw [ifP_f (fun q => q)]
  obtain ⟨k1, k2, k3⟩ := key
  exact ⟨k1, by omega, by omega⟩
theorem GI_hints {r : Row} (h : GI r) (h12 : r 12 = 0) {p w v : Int} (hp : 0 ≤ p ∧ p < 4) (hwv : wordOK w v) (h7 : 0 < r 7) (hsay : 0 < r (wordAtR w v)) : GI (hintsR r p w v) ∧ hintsR r p w v 13 = r 13 + 1 ∧ hintsR r p w v 13 + Phi (hintsR r p w v) ≤ r 13 + Phi r := by
  have h13 := h.2.2.2.2.2.2.2.1.1
  have hc := h.1
  have hw := wordAt_bd hwv
  unfold hintsR
  dsimp only
  have el : ∀ j, j < 238 → j ≠ 13 → logsR r 2 p (10 * w + v) j = r j := fun j h1 h2 => logs_at h13 h1 h2
  have e13 : logsR r 2 p (10 * w + v) 13 = r 13 + 1 := by unfold logsR; rw [up_eq]
  have cl : CI (up (logsR r 2 p (10 * w + v)) 7 (logsR r 2 p (10 * w + v) 7 - 1)) (-1) := CI_same (fun j hj => by rw [up_ne (by omega)]; exact el j (by omega) (by omega)) hc
  have cw := CI_word cl hw (by rw [up_ne (by omega), el _ (by omega) (by omega)]; exact hsay)
  have ew : ∀ j, j < 238 → j ≠ 13 → j ≠ 7 → ¬ (18 ≤ j ∧ j < 27) → up (up (logsR r 2 p (10 * w + v)) 7 (logsR r 2 p (10 * w + v) 7 - 1)) (wordAtR w v) (up (logsR r 2 p (10 * w + v)) 7 (logsR r 2 p (10 * w + v) 7 - 1) (wordAtR w v) - 1) j = r j := fun j a b c d => by
    rw [up_ne (by omega), up_ne c, el j a b]
  have ew13 : up (up (logsR r 2 p (10 * w + v)) 7 (logsR r 2 p (10 * w + v) 7 - 1)) (wordAtR w v) (up (logsR r 2 p (10 * w + v)) 7 (logsR r 2 p (10 * w + v) 7 - 1) (wordAtR w v) - 1) 13 = r 13 + 1 := by rw [up_ne (by omega), up_ne (by omega), e13]
  have ew7 : up (up (logsR r 2 p (10 * w + v)) 7 (logsR r 2 p (10 * w + v) 7 - 1)) (wordAtR w v) (up (logsR r 2 p (10 * w + v)) 7 (logsR r 2 p (10 * w + v) 7 - 1) (wordAtR w v) - 1) 7 = r 7 - 1 := by rw [up_ne (by omega), up_eq, el 7 (by omega) (by omega)]
  generalize up (up (logsR r 2 p (10 * w + v)) 7 (logsR r 2 p (10 * w + v) 7 - 1)) (wordAtR w v) (up (logsR r 2 p (10 * w + v)) 7 (logsR r 2 p (10 * w + v) 7 - 1) (wordAtR w v) - 1) = Y at *
  have hszp := hc.2.2.2.2.2.2.2.1 p hp.1 hp.2
  have ys := ew (187 + p) (by omega) (by omega) (by omega) (by omega)
  have ch := CI_hintN cw hp hwv (n := (r (187 + p)).toNat) (by omega)
  have eN : ∀ j, (j < 67 ∨ 187 ≤ j) → hintN p w v (r (187 + p)).toNat Y j = Y j := fun j hj => hintN_at (fun k a b => by
    rw [ew _ (by omega) (by omega) (by omega) (by omega)]
    exact hc.2.2.2.2.2.2.2.2.1 p k hp.1 hp.2 a (by omega)) hp.1 hj
  generalize hintN p w v (r (187 + p)).toNat Y = Z at *
  have ez : ∀ j, j < 231 → up (up Z 234 (Z 234 + 1)) 236 (Z 236 + manyR r p w v) j = Z j := fun j a => by rw [up_ne (by omega), up_ne (by omega)]
  refine GI_mid0 h h12 (CI_same (fun j hj => ez j (by omega)) ch) (fun j a b c => ?_) ?_ ?_ (Or.inl ?_) (fun p a b => ?_)
  · rw [ez j (by omega), eN j (by omega)]; exact ew j (by omega) c b (by omega)
  · rw [ez 13 (by omega), eN 13 (by omega)]; exact ew13
  · rw [ez 7 (by omega), eN 7 (by omega), ew7]; omega
  · rw [ez 7 (by omega), eN 7 (by omega), ew7]; omega
  · rw [ez _ (by omega), eN _ (by omega)]; exact ew _ (by omega) (by omega) (by omega) (by omega)
theorem GI_passes {r : Row} (h : GI r) (h12 : r 12 = 0) (h0 : r (187 + r 10) = 0) : GI (passesR r) ∧ passesR r 13 = r 13 + 1 ∧ passesR r 13 + Phi (passesR r) ≤ r 13 + Phi r := by
  have hov := over0 h h12
  have h13 := h.2.2.2.2.2.2.2.1.1
  have h7 := h.2.2.2.1
  have el : ∀ j, j < 238 → j ≠ 13 → logsR r 3 (-1) (-1) j = r j := fun j h1 h2 => logs_at h13 h1 h2
  unfold passesR
  refine GI_mid0 h h12 (CI_same (fun j hj => el j (by omega) (by omega)) h.1) (fun j a b c => el j (by omega) c) (by unfold logsR; rw [up_eq]) (by rw [el 7 (by omega) (by omega)]; omega) (Or.inr (fun q => ?_)) (fun p a b => el _ (by omega) (by omega))
  obtain ⟨hc, h10, h6, h7, h8, h9, h12', h13, hl, hz, hs, hs2⟩ := h
  have := hs hov.1 q (r 10) h10.1 (h10.2.2 hov.1)
  have := hz hov.1
  omega
/-! what an advice says -/
theorem placeWith_bd {r : Row} {k : Int} (h : 0 ≤ r (187 + r 10)) : placeWithR r k = -1 ∨ (0 ≤ placeWithR r k ∧ placeWithR r k < r (187 + r 10)) := by
  unfold placeWithR
  generalize (fun k' => if k = -1 then r (147 + r (191 + 5 * r 10 + k')) = 0 else knownR r (r 10) (r (67 + r (191 + 5 * r 10 + k'))) (r (107 + r (191 + 5 * r 10 + k'))) = k) = P
  rcases fk_spec (n := (r (187 + r 10)).toNat) (P := P) with q | q
  · exact Or.inl q.1
  · exact Or.inr (by omega)
theorem bestF_ok {r : Row} {must : Prop} {n : Nat} : (bestF r must n).1 = -1 ∨ (0 ≤ (bestF r must n).1 ∧ (bestF r must n).1 < n ∧ hOK r (bestF r must n).1) := by
  induction n with
  | zero => exact Or.inl rfl
  | succ n ih =>
    unfold bestF
    by_cases e : hOK r n ∧ (must ∨ (bestF r must n).1 = -1) ∧ (bestF r must n).2 < ifP must (tellingR r (hP r n) (hW r n) (hV r n)) 0
    · rw [ifP_t e]; exact Or.inr ⟨by dsimp only; omega, by dsimp only; omega, e.1⟩
    · rw [ifP_f e]
      rcases ih with q | q
      · exact Or.inl q
      · exact Or.inr ⟨q.1, by omega, q.2.2⟩
theorem ad_0 {o : Row} {a b c d : Int} : adUp o a b c d 0 = a := by unfold adUp; rw [up_ne (by omega), up_ne (by omega), up_ne (by omega), up_eq]
theorem ad_1 {o : Row} {a b c d : Int} : adUp o a b c d 1 = b := by unfold adUp; rw [up_ne (by omega), up_ne (by omega), up_eq]
theorem ad_2 {o : Row} {a b c d : Int} : adUp o a b c d 2 = c := by unfold adUp; rw [up_ne (by omega), up_eq]
theorem ad_3 {o : Row} {a b c d : Int} : adUp o a b c d 3 = d := by unfold adUp; rw [up_eq]
/-- the four cases of an advice -/
theorem advice_cases {r : Row} (h : RB r) (h2 : 0 < r 2) : ∃ a b c d, (∀ o, adviceR r o = adUp o a b c d) ∧
    ((a = 0 ∧ 0 ≤ b ∧ b < r (187 + r 10)) ∨ (a = 1 ∧ 0 ≤ b ∧ b < r (187 + r 10)) ∨ (a = 2 ∧ (0 ≤ b ∧ b < r 2) ∧ wordOK c d ∧ isWordR r c d ∧ sayR r b c d ∧ 0 < r 7) ∨ (a = 3 ∧ r (187 + r 10) = 0)) := by
  have g10 := h.2.1.2.1
  have hs := h.2.1.2.2.1 (r 10) g10.1 g10.2
  have b1 := placeWith_bd (r := r) (k := 1) hs.1
  have b2 := placeWith_bd (r := r) (k := 2) hs.1
  have b3 := placeWith_bd (r := r) (k := -1) hs.1
  have hint : ∀ n : Int, hOK r n → (0 ≤ hP r n ∧ hP r n < r 2) ∧ wordOK (hW r n) (hV r n) ∧ isWordR r (hW r n) (hV r n) ∧ sayR r (hP r n) (hW r n) (hV r n) ∧ 0 < r 7 := fun n q => by
    unfold hOK at q
    have hm := Int.emod_nonneg (r 10 + n / 16) (show r 2 ≠ 0 by omega)
    have hm2 := Int.emod_lt_of_pos (r 10 + n / 16) h2
    refine ⟨by unfold hP; omega, hWV_ok h.1.1 h.1.2.1 q.2.2.2.1, ?_, q.2.2.2.2, q.1⟩
    have := Int.emod_nonneg n (show (16 : Int) ≠ 0 by omega)
    have h0 := h.1.1
    unfold isWordR hW hV
    split <;> omega
  unfold adviceR
  by_cases q1 : placeWithR r 1 = -1
  · by_cases q2 : bestR r True = -1
    · by_cases q3 : placeWithR r 2 = -1
      · by_cases q4 : placeWithR r (-1) = -1
        · by_cases q5 : bestR r False = -1
          · by_cases q6 : r (187 + r 10) = 0
            · exact ⟨3, -1, -1, -1, fun o => by rw [if_neg (fun g => g q1), if_neg (fun g => g q2), if_neg (fun g => g q3), if_neg (fun g => g q4), if_neg (fun g => g q5), if_pos q6], Or.inr (Or.inr (Or.inr ⟨rfl, q6⟩))⟩
            · exact ⟨1, 0, -1, -1, fun o => by rw [if_neg (fun g => g q1), if_neg (fun g => g q2), if_neg (fun g => g q3), if_neg (fun g => g q4), if_neg (fun g => g q5), if_neg q6], Or.inr (Or.inl ⟨rfl, by omega, by omega⟩)⟩
          · have hb : hOK r (bestR r False) := by
              rcases bestF_ok (r := r) (must := False) (n := 64) with g | g
              · exact absurd g q5
              · exact g.2.2
            exact ⟨2, _, _, _, fun o => by rw [if_neg (fun g => g q1), if_neg (fun g => g q2), if_neg (fun g => g q3), if_neg (fun g => g q4), if_pos q5], Or.inr (Or.inr (Or.inl ⟨rfl, hint _ hb⟩))⟩
        · exact ⟨1, _, -1, -1, fun o => by rw [if_neg (fun g => g q1), if_neg (fun g => g q2), if_neg (fun g => g q3), if_pos q4], Or.inr (Or.inl ⟨rfl, by omega, by omega⟩)⟩
      · exact ⟨1, _, -1, -1, fun o => by rw [if_neg (fun g => g q1), if_neg (fun g => g q2), if_pos q3], Or.inr (Or.inl ⟨rfl, by omega, by omega⟩)⟩
    · have hb : hOK r (bestR r True) := by
        rcases bestF_ok (r := r) (must := True) (n := 64) with g | g
        · exact absurd g q2
        · exact g.2.2
      exact ⟨2, _, _, _, fun o => by rw [if_neg (fun g => g q1), if_pos q2], Or.inr (Or.inr (Or.inl ⟨rfl, hint _ hb⟩))⟩
  · exact ⟨0, _, -1, -1, fun o => by rw [if_pos q1], Or.inl ⟨rfl, by omega, by omega⟩⟩
theorem GI_follows {r : Row} (h : GI r) (h12 : r 12 = 0) : GI (followsR r) ∧ followsR r 13 = r 13 + 1 ∧ followsR r 13 + Phi (followsR r) ≤ r 13 + Phi r := by
  have h2 := over0 h h12
  obtain ⟨a, b, c, d, e, hc⟩ := advice_cases h.rb h2.1
  have hb2 := h.1.1.2.2.1
  unfold followsR
  rw [e r, ad_0, ad_1, ad_2, ad_3]
  rcases hc with ⟨rfl, h3, h4⟩ | ⟨rfl, h3, h4⟩ | ⟨rfl, h3, h4, h4', h5, h6⟩ | ⟨rfl, h3⟩
  · rw [if_pos rfl]; exact GI_plays h h12 ⟨h3, h4⟩
  · rw [if_neg (by omega), if_pos rfl]; exact GI_discards h h12 ⟨h3, h4⟩
  · rw [if_neg (by omega), if_neg (by omega), if_pos rfl]; exact GI_hints h h12 (by omega) h4 h6 h5.1
  · rw [if_neg (by omega), if_neg (by omega), if_neg (by omega)]; exact GI_passes h h12 h3
/-! following -/
noncomputable def folM : Nat → Row → Int
  | 0, _ => 0
  | t + 1, r => if r 12 = 0 then folM t (followsR r) + 1 else 0
noncomputable def folR : Nat → Row → Row
  | 0, r => r
  | t + 1, r => if r 12 = 0 then folR t (followsR r) else r
theorem GI_fol {t : Nat} {r : Row} (h : GI r) : GI (folR t r) ∧ folR t r 13 + Phi (folR t r) ≤ r 13 + Phi r ∧ folM t r = folR t r 13 - r 13 ∧ 0 ≤ folM t r ∧ folM t r ≤ t := by
  induction t generalizing r with
  | zero => exact ⟨h, Int.le_refl _, by show (0 : Int) = r 13 - r 13; omega, by show (0 : Int) ≤ 0; omega, by show (0 : Int) ≤ 0; omega⟩
  | succ t ih =>
    unfold folR folM
    by_cases q : r 12 = 0
    · rw [if_pos q, if_pos q]
      obtain ⟨h1, h2, h3⟩ := GI_follows h q
      obtain ⟨g1, g2, g3, g4, g5⟩ := ih h1
      exact ⟨g1, by omega, by omega, by omega, by omega⟩
    · rw [if_neg q, if_neg q]
      exact ⟨h, Int.le_refl _, by omega, by omega, by omega⟩
/-- rows that are the same where a game lies -/
def eqv (r r' : Row) : Prop := ∀ j, 0 ≤ j → j < 358 → r' j = r j
theorem eqv.rfl {r : Row} : eqv r r := fun _ _ _ => Eq.refl _
theorem eqv.symm {r r' : Row} (h : eqv r r') : eqv r' r := fun j a b => (h j a b).symm
theorem eqv.trans {r r' r'' : Row} (h : eqv r r') (g : eqv r' r'') : eqv r r'' := fun j a b => (g j a b).trans (h j a b)
theorem overR_eqv {r r' : Row} (h : eqv r r') (h0 : r 0 ≤ 4) : overR r' = overR r := by
  unfold overR
  rw [h 8 (by omega) (by omega), h 9 (by omega) (by omega)]
  have : wholeR r' ↔ wholeR r := by
    unfold wholeR
    rw [h 0 (by omega) (by omega), h 1 (by omega) (by omega)]
    exact ⟨fun q c a b => by rw [← h (14 + c) (by omega) (by omega)]; exact q c a b, fun q c a b => by rw [h (14 + c) (by omega) (by omega)]; exact q c a b⟩
  rw [propext this]
theorem GI_eqv {r r' : Row} (h : eqv r r') (hr : GI r) : GI r' := by
  obtain ⟨hc, h10, h6, h7, h8, h9, h12', h13, hl, hz, hs, hs2⟩ := hr
  have e : ∀ j, 0 ≤ j → j < 358 → r' j = r j := h
  have e0 := e 0 (by omega) (by omega)
  have e1 := e 1 (by omega) (by omega)
  have e2 := e 2 (by omega) (by omega)
  have e3 := e 3 (by omega) (by omega)
  have e4 := e 4 (by omega) (by omega)
  have e5 := e 5 (by omega) (by omega)
  have e6 := e 6 (by omega) (by omega)
  have e7 := e 7 (by omega) (by omega)
  have e8 := e 8 (by omega) (by omega)
  have e9 := e 9 (by omega) (by omega)
  have e10 := e 10 (by omega) (by omega)
  have e12 := e 12 (by omega) (by omega)
  have e13 := e 13 (by omega) (by omega)
  have hcb := hc.1
  have ep : Phi r' = Phi r := by unfold Phi; rw [e9, e4, e5, e7, e2]
  refine ⟨CI_same (fun j hj => e j (by omega) (by omega)) hc, by omega, by omega, by omega, by omega, by omega, ?_, by omega, fun a b => by rw [e2] at a; rw [e9] at b; have := hl a b; omega, fun a => by rw [e2] at a; have := hz a; omega, fun a b p c f => ?_, fun p a b => ?_⟩
  · rw [e12, e2, overR_eqv h (by omega)]; exact h12'
  · rw [e2] at a f; rw [e9] at b; rw [e (187 + p) (by omega) (by omega), e3]; exact hs a b p c f
  · rw [e (187 + p) (by omega) (by omega), e3]; exact hs2 p a b
