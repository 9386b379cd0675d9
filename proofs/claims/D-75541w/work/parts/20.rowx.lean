set_option maxRecDepth 100000
/-! ===== positions with all cards seen ===== -/
abbrev Pos : Type := (Int64 × Int64 × Int64 × Int64) × (Int × Int × Int × Int) × (Int × Int × Int × Int)
def pH (p : Pos) (i : Int) : Int64 := if i = 0 then p.1.1 else if i = 1 then p.1.2.1 else if i = 2 then p.1.2.2.1 else p.1.2.2.2
def pP (p : Pos) (i : Int) : Int := if i = 0 then p.2.1.1 else if i = 1 then p.2.1.2.1 else if i = 2 then p.2.1.2.2.1 else p.2.1.2.2.2
def pT (p : Pos) : Int := p.2.2.1
def pN (p : Pos) : Int := p.2.2.2.1
def pU (p : Pos) : Int := p.2.2.2.2.1
def pL (p : Pos) : Int := p.2.2.2.2.2
def mkP (H : Int → Int64) (P : Row) (t n u l : Int) : Pos := ((H 0, H 1, H 2, H 3), (P 0, P 1, P 2, P 3), (t, n, u, l))
theorem mk_H {H : Int → Int64} {P : Row} {t n u l i : Int} (h : 0 ≤ i ∧ i < 4) : pH (mkP H P t n u l) i = H i := by
  have : i = 0 ∨ i = 1 ∨ i = 2 ∨ i = 3 := by omega
  rcases this with rfl | rfl | rfl | rfl <;> rfl
theorem mk_P {H : Int → Int64} {P : Row} {t n u l i : Int} (h : 0 ≤ i ∧ i < 4) : pP (mkP H P t n u l) i = P i := by
  have : i = 0 ∨ i = 1 ∨ i = 2 ∨ i = 3 := by omega
  rcases this with rfl | rfl | rfl | rfl <;> rfl
theorem mk_eta {p : Pos} : mkP (pH p) (pP p) (pT p) (pN p) (pU p) (pL p) = p := rfl
theorem mkP_ext {H H' : Int → Int64} {P P' : Row} {t n u l t' n' u' l' : Int} : mkP H P t n u l = mkP H' P' t' n' u' l' ↔ (∀ i, 0 ≤ i → i < 4 → H i = H' i) ∧ (∀ i, 0 ≤ i → i < 4 → P i = P' i) ∧ t = t' ∧ n = n' ∧ u = u' ∧ l = l' := by
  constructor
  · intro h
    unfold mkP at h
    simp only [Prod.mk.injEq] at h
    obtain ⟨⟨a1, a2, a3, a4⟩, ⟨b1, b2, b3, b4⟩, c1, c2, c3, c4⟩ := h
    refine ⟨fun i q1 q2 => ?_, fun i q1 q2 => ?_, c1, c2, c3, c4⟩
    · have : i = 0 ∨ i = 1 ∨ i = 2 ∨ i = 3 := by omega
      rcases this with rfl | rfl | rfl | rfl <;> assumption
    · have : i = 0 ∨ i = 1 ∨ i = 2 ∨ i = 3 := by omega
      rcases this with rfl | rfl | rfl | rfl <;> assumption
  · rintro ⟨h1, h2, rfl, rfl, rfl, rfl⟩
    unfold mkP
    rw [h1 0 (by omega) (by omega), h1 1 (by omega) (by omega), h1 2 (by omega) (by omega), h1 3 (by omega) (by omega), h2 0 (by omega) (by omega), h2 1 (by omega) (by omega), h2 2 (by omega) (by omega), h2 3 (by omega) (by omega)]
/-! sets of cards in a long -/
def setC (s : Int64) (c : Int) : Int64 := s ||| jlshl (jL 1) (jI c)
def clrC (s : Int64) (c : Int) : Int64 := s &&& (jlshl (jL 1) (jI c) ^^^ jL (-1))
def hasC (s : Int64) (c : Int) : Prop := jlshr s (jI c) &&& jL 1 ≠ 0
/-! moves -/
def itsR (r : Row) (c : Int) : Int := r (27 + c)
def playC (r : Row) (p : Pos) (c : Int) : Prop := rnkR (itsR r c) = pP p (colR (itsR r c)) + 1
/-- a card of kind-0 or kind-1 moves goes out of the hand -/
def mvP (r : Row) (kind c : Int) (p : Pos) : Pos :=
  let H1 := if kind < 2 then upL (pH p) (pU p) (clrC (pH p (pU p)) c) else pH p
  let P1 := if kind = 0 then up (pP p) (colR (itsR r c)) (pP p (colR (itsR r c)) + 1) else pP p
  let t1 := if kind < 2 then (if kind = 1 ∨ rnkR (itsR r c) = r 1 then min (r 6) (pT p + 1) else pT p) else if kind = 2 then pT p - 1 else pT p
  let H2 := if kind < 2 ∧ pN p < r 4 then upL H1 (pU p) (setC (H1 (pU p)) (pN p)) else H1
  let n1 := if kind < 2 ∧ pN p < r 4 then pN p + 1 else pN p
  let l1 := if pL p ≠ -1 then pL p - 1 else if (kind < 2 ∧ pN p < r 4) ∧ pN p + 1 = r 4 then r 2 else pL p
  mkP H2 P1 t1 n1 ((pU p + 1) % r 2) l1
def scoreP (p : Pos) : Int := su 0 4 (pP p)
def finalP (r : Row) (p : Pos) : Prop := (∀ c, 0 ≤ c → c < r 0 → pP p c = r 1) ∨ pL p = 0
/-- b comes from a -/
def stepP (r : Row) (a b : Pos) : Prop := ¬ finalP r a ∧
  ((∃ c, 0 ≤ c ∧ c < r 4 ∧ hasC (pH a (pU a)) c ∧ (b = mvP r 1 c a ∨ (playC r a c ∧ b = mvP r 0 c a))) ∨ (0 < pT a ∧ b = mvP r 2 (-1) a) ∨ (pH a (pU a) = 0 ∧ b = mvP r 3 (-1) a))
def reachP (r : Row) (a b : Pos) : Prop := ∀ X : Pos → Prop, X a → (∀ x y, X x → stepP r x y → X y) → X b
theorem reach_refl {r : Row} {a : Pos} : reachP r a a := fun _ h _ => h
theorem reach_step {r : Row} {a b c : Pos} (h : reachP r a b) (s : stepP r b c) : reachP r a c := fun X hx hs => hs _ _ (h X hx hs) s
theorem reach_trans {r : Row} {a b c : Pos} (h : reachP r a b) (g : reachP r b c) : reachP r a c := fun X hx hs => g X (h X hx hs) hs
/-- n different positions, all reachable -/
def listP (r : Row) (p0 : Pos) (Q : Int → Pos) (n : Int) : Prop := 1 ≤ n ∧ Q 0 = p0 ∧ (∀ i, 0 ≤ i → i < n → reachP r p0 (Q i)) ∧ ∀ i j, 0 ≤ i → i < n → 0 ≤ j → j < n → Q i = Q j → i = j
def closedP (r : Row) (Q : Int → Pos) (n k : Int) : Prop := ∀ i, 0 ≤ i → i < k → ∀ q, stepP r (Q i) q → ∃ j, 0 ≤ j ∧ j < n ∧ Q j = q
/-- all positions: n of them, the greatest score v -/
def FinP (r : Row) (p0 : Pos) (n v : Int) : Prop := ∃ Q : Int → Pos, listP r p0 Q n ∧ closedP r Q n n ∧ (∀ i, 0 ≤ i → i < n → scoreP (Q i) ≤ v) ∧ ∃ i, 0 ≤ i ∧ i < n ∧ scoreP (Q i) = v
def ManyP (r : Row) (p0 : Pos) : Prop := ∃ Q : Int → Pos, listP r p0 Q 4001
theorem all_in {r : Row} {p0 : Pos} {Q : Int → Pos} {n : Int} (h : listP r p0 Q n) (hc : closedP r Q n n) {q : Pos} (hq : reachP r p0 q) : ∃ i, 0 ≤ i ∧ i < n ∧ Q i = q := by
  refine hq (fun x => ∃ i, 0 ≤ i ∧ i < n ∧ Q i = x) ⟨0, by omega, by have := h.1; omega, h.2.1⟩ (fun x y hx hs => ?_)
  obtain ⟨i, a, b, e⟩ := hx
  exact hc i a b y (by rw [e]; exact hs)
/-- a map that keeps different numbers different needs room -/
theorem pigeon {n : Nat} : ∀ {m : Nat} {f : Int → Int}, (∀ i : Int, 0 ≤ i → i < n → 0 ≤ f i ∧ f i < m) → (∀ i j : Int, 0 ≤ i → i < n → 0 ≤ j → j < n → f i = f j → i = j) → n ≤ m := by
  induction n with
  | zero => intro m f _ _; omega
  | succ n ih =>
    intro m f hf hi
    have h0 := hf n (by omega) (by omega)
    have := ih (m := m - 1) (f := fun i => if f i = m - 1 then f n else f i) (fun i a b => by
      have h1 := hf i a (by omega)
      split
      · next g =>
        have : f i ≠ f n := fun e => by have := hi i n a (by omega) (by omega) (by omega) e; omega
        omega
      · omega) (fun i j a b c e h => by
      by_cases g1 : f i = m - 1
      · by_cases g2 : f j = m - 1
        · exact hi i j a (by omega) c (by omega) (by omega)
        · rw [if_pos g1, if_neg g2] at h
          have := hi n j (by omega) (by omega) c (by omega) h; omega
      · by_cases g2 : f j = m - 1
        · rw [if_neg g1, if_pos g2] at h
          have := hi i n a (by omega) (by omega) (by omega) h; omega
        · rw [if_neg g1, if_neg g2] at h
          exact hi i j a (by omega) c (by omega) h)
    omega
theorem list_le {r : Row} {p0 : Pos} {Q Q' : Int → Pos} {n n' : Int} (h : listP r p0 Q n) (h' : listP r p0 Q' n') (hc : closedP r Q' n' n') : n ≤ n' := by
  have ex : ∀ i, 0 ≤ i → i < n → ∃ j, 0 ≤ j ∧ j < n' ∧ Q' j = Q i := fun i a b => all_in h' hc (h.2.2.1 i a b)
  have hn := h.1
  have hn' := h'.1
  have key := pigeon (n := n.toNat) (m := n'.toNat) (f := fun i => @dite _ (0 ≤ i ∧ i < n) (Classical.propDecidable _) (fun g => Classical.choose (ex i g.1 g.2)) (fun _ => 0)) (fun i a b => by
    have g : 0 ≤ i ∧ i < n := ⟨a, by omega⟩
    rw [dif_pos g]
    have := Classical.choose_spec (ex i g.1 g.2)
    omega) (fun i j a b c d e => by
    have g : 0 ≤ i ∧ i < n := ⟨a, by omega⟩
    have g' : 0 ≤ j ∧ j < n := ⟨c, by omega⟩
    rw [dif_pos g, dif_pos g'] at e
    have s1 := (Classical.choose_spec (ex i g.1 g.2)).2.2
    have s2 := (Classical.choose_spec (ex j g'.1 g'.2)).2.2
    rw [e] at s1
    exact h.2.2.2 i j a g.2 c g'.2 (s1.symm.trans s2))
  omega
theorem fin_uniq {r : Row} {p0 : Pos} {n v n' v' : Int} (h : FinP r p0 n v) (h' : FinP r p0 n' v') : n = n' ∧ v = v' := by
  obtain ⟨Q, h1, h2, h3, i, h4, h5, h6⟩ := h
  obtain ⟨Q', g1, g2, g3, i', g4, g5, g6⟩ := h'
  have a := list_le h1 g1 g2
  have b := list_le g1 h1 h2
  obtain ⟨j, j1, j2, j3⟩ := all_in g1 g2 (h1.2.2.1 i h4 h5)
  obtain ⟨j', k1, k2, k3⟩ := all_in h1 h2 (g1.2.2.1 i' g4 g5)
  have c := g3 j j1 j2
  have d := h3 j' k1 k2
  rw [j3, h6] at c
  rw [k3, g6] at d
  exact ⟨by omega, by omega⟩
theorem fin_many {r : Row} {p0 : Pos} {n v : Int} (h : FinP r p0 n v) (h' : ManyP r p0) : 4000 < n := by
  obtain ⟨Q, h1, h2, -⟩ := h
  obtain ⟨Q', g1⟩ := h'
  have := list_le g1 h1 h2
  omega
/-! a table of hashes: T s: the number that lies in slot s, -1: none -/
def HT (T : Int → Int) (n : Int) (hash : Int → Int) : Prop :=
  (∀ s, 0 ≤ s → s < 16384 → -1 ≤ T s ∧ T s < n) ∧ (∀ s s', 0 ≤ s → s < 16384 → 0 ≤ s' → s' < 16384 → T s = T s' → T s ≠ -1 → s = s') ∧
  (∀ k, 0 ≤ k → k < n → (0 ≤ hash k ∧ hash k < 16384) ∧ ∃ j, 0 ≤ j ∧ j < 16384 ∧ T ((hash k + j) % 16384) = k ∧ ∀ i, 0 ≤ i → i < j → T ((hash k + i) % 16384) ≠ -1)
theorem HT_free {T : Int → Int} {n : Int} {hash : Int → Int} (h : HT T n hash) (hn : 0 ≤ n ∧ n < 16384) {g : Int} (hg : 0 ≤ g ∧ g < 16384) : ∃ j, 0 ≤ j ∧ j < 16384 ∧ T ((g + j) % 16384) = -1 ∧ ∀ i, 0 ≤ i → i < j → T ((g + i) % 16384) ≠ -1 := by
  rcases fk_spec (n := 16384) (P := fun j => T ((g + j) % 16384) = -1) with ⟨_, h1⟩ | ⟨h1, h2, h3, h4⟩
  · exfalso
    have := pigeon (n := 16384) (m := n.toNat) (f := fun j => T ((g + j) % 16384)) (fun i a b => by
      have q1 := h.1 ((g + i) % 16384) (by omega) (by omega)
      have q2 := h1 i a (by omega)
      omega) (fun i j a b c d e => by
      have q2 := h1 i a (by omega)
      have := h.2.1 ((g + i) % 16384) ((g + j) % 16384) (by omega) (by omega) (by omega) (by omega) e q2
      omega)
    omega
  · exact ⟨_, h1, by omega, h3, h4⟩
/-- what isn't met ahead of an empty slot isn't there -/
theorem HT_miss {T : Int → Int} {n : Int} {hash : Int → Int} (h : HT T n hash) {g e : Int} (hg : 0 ≤ g ∧ g < 16384) (he : 0 ≤ e ∧ e < 16384) (h0 : T ((g + e) % 16384) = -1) {k : Int} (hk : 0 ≤ k ∧ k < n) (hh : hash k = g) : ∃ j, 0 ≤ j ∧ j < e ∧ T ((g + j) % 16384) = k := by
  obtain ⟨h1, j, h2, h3, h4, h5⟩ := h.2.2 k hk.1 hk.2
  rw [hh] at h4 h5
  refine ⟨j, h2, ?_, h4⟩
  by_cases q : j < e
  · exact q
  · exfalso
    by_cases q2 : j = e
    · subst q2; omega
    · exact h5 e he.1 (by omega) h0
theorem HT_ins {T : Int → Int} {n : Int} {hash hash' : Int → Int} (h : HT T n hash) (hn : 0 ≤ n) {g e : Int} (hg : 0 ≤ g ∧ g < 16384) (he : 0 ≤ e ∧ e < 16384) (h0 : T ((g + e) % 16384) = -1) (hb : ∀ i, 0 ≤ i → i < e → T ((g + i) % 16384) ≠ -1) (hh : hash' n = g) (ho : ∀ k, 0 ≤ k → k < n → hash' k = hash k) : HT (up T ((g + e) % 16384) n) (n + 1) hash' := by
  have key : ∀ s, T s ≠ -1 → up T ((g + e) % 16384) n s = T s := fun s hs => up_ne (fun q => hs (by rw [q]; exact h0))
  refine ⟨fun s a b => ?_, fun s s' a b c d q q2 => ?_, fun k a b => ?_⟩
  · have := h.1 s a b
    by_cases g1 : s = (g + e) % 16384
    · rw [g1, up_eq]; omega
    · rw [up_ne g1]; omega
  · have h1 := h.1 s a b
    have h2 := h.1 s' c d
    by_cases g1 : s = (g + e) % 16384
    · by_cases g2 : s' = (g + e) % 16384
      · omega
      · rw [g1, up_eq, up_ne g2] at q; omega
    · by_cases g2 : s' = (g + e) % 16384
      · rw [g2, up_eq, up_ne g1] at q; omega
      · rw [up_ne g1, up_ne g2] at q; rw [up_ne g1] at q2; exact h.2.1 s s' a b c d q q2
  · by_cases q : k = n
    · subst q
      rw [hh]
      exact ⟨hg, e, he.1, he.2, up_eq, fun i c d => by rw [key _ (hb i c d)]; exact hb i c d⟩
    · obtain ⟨h1, j, h2, h3, h4, h5⟩ := h.2.2 k a (by omega)
      rw [ho k a (by omega)]
      exact ⟨h1, j, h2, h3, by rw [key _ (by rw [h4]; omega)]; exact h4, fun i c d => by rw [key _ (h5 i c d)]; exact h5 i c d⟩
/-! bits of a long -/
def bitL (s : Int64) (c : Int) : Bool := s.toBitVec.getLsbD c.toNat
theorem jl_mask {c : Int} (hc : 0 ≤ c ∧ c < 64) : ((jI c).toInt64 &&& 63).toBitVec.smod 64 = BitVec.ofNat 64 c.toNat := by
  have hm : ∀ n : Fin 64, ((jI ((n : Nat) : Int)).toInt64 &&& 63).toBitVec.smod 64 = BitVec.ofNat 64 (n : Nat) := by decide +kernel
  have := hm ⟨c.toNat, by omega⟩
  simp only [Int.toNat_of_nonneg hc.1] at this
  exact this
theorem jlshr_bv {s : Int64} {c : Int} (hc : 0 ≤ c ∧ c < 64) : (jlshr s (jI c)).toBitVec = s.toBitVec.sshiftRight c.toNat := by
  unfold jlshr
  show BitVec.sshiftRight s.toBitVec (((jI c).toInt64 &&& 63).toBitVec.smod 64).toNat = _
  rw [jl_mask hc, BitVec.toNat_ofNat, Nat.mod_eq_of_lt (by omega)]
theorem jlshl_bv {s : Int64} {c : Int} (hc : 0 ≤ c ∧ c < 64) : (jlshl s (jI c)).toBitVec = s.toBitVec <<< c.toNat := by
  unfold jlshl
  show s.toBitVec <<< (((jI c).toInt64 &&& 63).toBitVec.smod 64) = _
  rw [jl_mask hc]
  show s.toBitVec <<< (BitVec.ofNat 64 c.toNat).toNat = _
  rw [BitVec.toNat_ofNat, Nat.mod_eq_of_lt (by omega)]
theorem hasC_iff {s : Int64} {c : Int} (hc : 0 ≤ c ∧ c < 64) : hasC s c ↔ bitL s c = true := by
  have e : (jlshr s (jI c) &&& jL 1).toBitVec = BitVec.setWidth 64 (BitVec.ofBool (bitL s c)) := by
    show (jlshr s (jI c)).toBitVec &&& (1#64) = _
    rw [jlshr_bv hc, BitVec.and_one_eq_setWidth_ofBool_getLsbD, BitVec.getLsbD_sshiftRight]
    unfold bitL
    congr 2
    simp
    omega
  unfold hasC
  constructor
  · intro h
    by_cases q : bitL s c = true
    · exact q
    · exfalso
      apply h
      apply Int64.toBitVec_inj.mp
      rw [e]
      simp only [Bool.not_eq_true] at q
      rw [q]; rfl
  · intro h h0
    rw [h] at e
    rw [h0] at e
    exact absurd e (by decide)
theorem bit_set {s : Int64} {c i : Int} (hc : 0 ≤ c ∧ c < 64) (hi : 0 ≤ i ∧ i < 64) : bitL (setC s c) i = (bitL s i || decide (i = c)) := by
  unfold bitL setC
  show (s.toBitVec ||| (jlshl (jL 1) (jI c)).toBitVec).getLsbD i.toNat = _
  rw [jlshl_bv hc, BitVec.getLsbD_or]
  congr 1
  show ((1#64) <<< c.toNat).getLsbD i.toNat = _
  rw [← BitVec.twoPow_eq, BitVec.getLsbD_twoPow]
  by_cases q : i = c
  · subst q; simp; omega
  · have : ¬ c.toNat = i.toNat := by omega
    simp [q, this]
theorem bit_clr {s : Int64} {c i : Int} (hc : 0 ≤ c ∧ c < 64) (hi : 0 ≤ i ∧ i < 64) : bitL (clrC s c) i = (bitL s i && !decide (i = c)) := by
  unfold bitL clrC
  show (s.toBitVec &&& ((jlshl (jL 1) (jI c)).toBitVec ^^^ (BitVec.allOnes 64))).getLsbD i.toNat = _
  rw [jlshl_bv hc, BitVec.getLsbD_and, BitVec.getLsbD_xor]
  congr 1
  show (((1#64) <<< c.toNat).getLsbD i.toNat ^^ _) = _
  rw [← BitVec.twoPow_eq, BitVec.getLsbD_twoPow, BitVec.getLsbD_allOnes]
  by_cases q : i = c
  · subst q; simp
  · have h1 : ¬ c.toNat = i.toNat := by omega
    have h2 : i.toNat < 64 := by omega
    simp [q, h1, h2]
theorem has_set {s : Int64} {c i : Int} (hc : 0 ≤ c ∧ c < 64) (hi : 0 ≤ i ∧ i < 64) : hasC (setC s c) i ↔ hasC s i ∨ i = c := by
  rw [hasC_iff hi, hasC_iff hi, bit_set hc hi]; simp
theorem has_clr {s : Int64} {c i : Int} (hc : 0 ≤ c ∧ c < 64) (hi : 0 ≤ i ∧ i < 64) : hasC (clrC s c) i ↔ hasC s i ∧ i ≠ c := by
  rw [hasC_iff hi, hasC_iff hi, bit_clr hc hi]; simp
theorem has_zero {i : Int} (hi : 0 ≤ i ∧ i < 64) : ¬ hasC (jL 0) i := by
  rw [hasC_iff hi]
  unfold bitL
  show ¬ ((0#64).getLsbD i.toNat = true)
  simp
/-- how many cards -/
noncomputable def cntC (s : Int64) : Int := su 0 40 (fun c => ifP (hasC s c) 1 0)
theorem su_one {lo hi c : Int} {f g : Int → Int} {dl : Int} (hc : lo ≤ c ∧ c < hi) (hd : g c = f c + dl) (ho : ∀ i, lo ≤ i → i < hi → i ≠ c → g i = f i) : su lo hi g = su lo hi f + dl := by
  rw [su_split (lo := lo) (mid := c) (hi := hi) (f := g) (by omega) (by omega), su_split (lo := c) (mid := c + 1) (hi := hi) (f := g) (by omega) (by omega), su_succ (Int.le_refl c), su_self,
    su_split (lo := lo) (mid := c) (hi := hi) (f := f) (by omega) (by omega), su_split (lo := c) (mid := c + 1) (hi := hi) (f := f) (by omega) (by omega), su_succ (f := f) (Int.le_refl c), su_self]
  rw [su_congr (f := g) (g := f) (fun i a b => ho i a (by omega) (by omega)), su_congr (lo := c + 1) (f := g) (g := f) (fun i a b => ho i (by omega) b (by omega)), hd]
  omega
theorem ifP_iff {α : Type} {p q : Prop} (h : p ↔ q) {a b : α} : ifP p a b = ifP q a b := by rw [propext h]
theorem cnt_clr {s : Int64} {c : Int} (hc : 0 ≤ c ∧ c < 40) (h : hasC s c) : cntC (clrC s c) = cntC s - 1 := by
  unfold cntC
  have := su_one (lo := 0) (hi := 40) (c := c) (f := fun i => ifP (hasC s i) (1 : Int) 0) (g := fun i => ifP (hasC (clrC s c) i) (1 : Int) 0) (dl := -1) hc (by
    rw [ifP_t h, ifP_f (fun q => ((has_clr (by omega) (by omega)).mp q).2 rfl)]; rfl) (fun i a b e => ifP_iff ⟨fun q => ((has_clr (by omega) (by omega)).mp q).1, fun q => (has_clr (by omega) (by omega)).mpr ⟨q, e⟩⟩)
  rw [this]; omega
theorem cnt_set {s : Int64} {c : Int} (hc : 0 ≤ c ∧ c < 40) : cntC (setC s c) ≤ cntC s + 1 := by
  by_cases h : hasC s c
  · have : cntC (setC s c) = cntC s := by
      unfold cntC
      exact su_congr fun i a b => ifP_iff ⟨fun q => by
        rcases (has_set (by omega) (by omega)).mp q with g | g
        · exact g
        · rw [g]; exact h, fun q => (has_set (by omega) (by omega)).mpr (Or.inl q)⟩
    omega
  · unfold cntC
    have := su_one (lo := 0) (hi := 40) (c := c) (f := fun i => ifP (hasC s i) (1 : Int) 0) (g := fun i => ifP (hasC (setC s c) i) (1 : Int) 0) (dl := 1) hc (by
      rw [ifP_f h, ifP_t ((has_set (by omega) (by omega)).mpr (Or.inr rfl))]; rfl) (fun i a b e => ifP_iff ⟨fun q => ((has_set (by omega) (by omega)).mp q).resolve_right e, fun q => (has_set (by omega) (by omega)).mpr (Or.inl q)⟩)
    omega
theorem cnt_nn {s : Int64} : 0 ≤ cntC s := (su_ifP_bd (by omega)).1
theorem cnt_zero : cntC (jL 0) = 0 := by
  unfold cntC
  have : su 0 40 (fun c => ifP (hasC (jL 0) c) (1 : Int) 0) = su 0 40 (fun _ => 0) := su_congr fun c a b => ifP_f (has_zero (by omega))
  rw [this]; rfl
/-! what holds of each position -/
def RX (r : Row) : Prop := RK r ∧ (2 ≤ r 2 ∧ r 2 ≤ 4) ∧ (0 ≤ r 6 ∧ r 6 ≤ 9) ∧ ∀ c, 0 ≤ c → c < r 4 → colR (r (27 + c)) < r 0 ∧ rnkR (r (27 + c)) ≤ r 1
def VP (r : Row) (p : Pos) : Prop := (∀ c, 0 ≤ c → c < 4 → 0 ≤ pP p c ∧ pP p c ≤ r 1 ∧ (r 0 ≤ c → pP p c = 0)) ∧ (0 ≤ pT p ∧ pT p ≤ r 6) ∧ (0 ≤ pN p ∧ pN p ≤ r 4) ∧ (0 ≤ pU p ∧ pU p < r 2) ∧ (-1 ≤ pL p ∧ pL p ≤ r 2) ∧ (pL p = -1 → pN p < r 4) ∧ ∀ i, 0 ≤ i → i < 4 → cntC (pH p i) ≤ 5
/-- the move is allowed -/
def okP (r : Row) (kind c : Int) (p : Pos) : Prop := (kind = 0 ∧ (0 ≤ c ∧ c < r 4) ∧ hasC (pH p (pU p)) c ∧ playC r p c) ∨ (kind = 1 ∧ (0 ≤ c ∧ c < r 4) ∧ hasC (pH p (pU p)) c) ∨ (kind = 2 ∧ 0 < pT p) ∨ kind = 3
theorem mv_ok {r : Row} (hr : RX r) {p : Pos} (hp : VP r p) {kind c : Int} (ho : okP r kind c p) (hl : pL p ≠ 0) : VP r (mvP r kind c p) := by
  obtain ⟨hk, h2, h6, hkc⟩ := hr
  obtain ⟨v1, v2, v3, v4, v5, v6, v7⟩ := hp
  have h4 := hk.2.2.1
  have hm := Int.emod_nonneg (pU p + 1) (show r 2 ≠ 0 by omega)
  have hm2 := Int.emod_lt_of_pos (pU p + 1) (show 0 < r 2 by omega)
  have hcard : kind < 2 → (0 ≤ c ∧ c < r 4) ∧ hasC (pH p (pU p)) c := fun q => by
    rcases ho with h | h | h | h
    · exact ⟨h.2.1, h.2.2.1⟩
    · exact ⟨h.2.1, h.2.2⟩
    · omega
    · omega
  have hT : 0 ≤ (if kind < 2 then (if kind = 1 ∨ rnkR (itsR r c) = r 1 then min (r 6) (pT p + 1) else pT p) else if kind = 2 then pT p - 1 else pT p) ∧ (if kind < 2 then (if kind = 1 ∨ rnkR (itsR r c) = r 1 then min (r 6) (pT p + 1) else pT p) else if kind = 2 then pT p - 1 else pT p) ≤ r 6 := by
    split
    · split <;> omega
    · split
      · rcases ho with h | h | h | h <;> omega
      · omega
  unfold mvP
  dsimp only
  refine ⟨fun i a b => ?_, hT, ?_, ⟨hm, hm2⟩, ?_, ?_, fun i a b => ?_⟩
  · rw [mk_P ⟨a, b⟩]
    have h1 := v1 i a b
    by_cases k0 : kind = 0
    · rw [if_pos k0]
      have hpl : playC r p c := by
        rcases ho with h | h | h | h
        · exact h.2.2.2
        all_goals omega
      have hc := hcard (by omega)
      have hck := hkc c hc.1.1 hc.1.2
      unfold playC at hpl
      by_cases q : i = colR (itsR r c)
      · rw [q, up_eq]
        rw [q] at h1
        have : colR (itsR r c) < r 0 ∧ rnkR (itsR r c) ≤ r 1 := hck
        omega
      · rw [up_ne q]; exact h1
    · rw [if_neg k0]; exact h1
  · show 0 ≤ (if kind < 2 ∧ pN p < r 4 then pN p + 1 else pN p) ∧ (if kind < 2 ∧ pN p < r 4 then pN p + 1 else pN p) ≤ r 4
    split <;> omega
  · show -1 ≤ (if pL p ≠ -1 then pL p - 1 else if (kind < 2 ∧ pN p < r 4) ∧ pN p + 1 = r 4 then r 2 else pL p) ∧ (if pL p ≠ -1 then pL p - 1 else if (kind < 2 ∧ pN p < r 4) ∧ pN p + 1 = r 4 then r 2 else pL p) ≤ r 2
    split
    · omega
    · split <;> omega
  · show (if pL p ≠ -1 then pL p - 1 else if (kind < 2 ∧ pN p < r 4) ∧ pN p + 1 = r 4 then r 2 else pL p) = -1 → (if kind < 2 ∧ pN p < r 4 then pN p + 1 else pN p) < r 4
    by_cases q : pL p = -1
    · rw [if_neg (fun g => g q)]
      have := v6 q
      by_cases q2 : (kind < 2 ∧ pN p < r 4) ∧ pN p + 1 = r 4
      · rw [if_pos q2]; omega
      · rw [if_neg q2]; intro _; split <;> omega
    · rw [if_pos q]; omega
  · rw [mk_H ⟨a, b⟩]
    have h1 := v7 i a b
    by_cases k2 : kind < 2
    · have hc := hcard k2
      have hcl := cnt_clr (s := pH p (pU p)) (c := c) (by omega) hc.2
      have h7 := v7 (pU p) v4.1 (by omega)
      rw [if_pos k2]
      by_cases q : pN p < r 4
      · rw [if_pos ⟨k2, q⟩]
        by_cases g : i = pU p
        · subst g
          rw [upL_eq, upL_eq]
          have := cnt_set (s := clrC (pH p (pU p)) c) (c := pN p) (by omega)
          omega
        · rw [upL_ne g, upL_ne g]; exact h1
      · rw [if_neg (fun g => q g.2)]
        by_cases g : i = pU p
        · subst g; rw [upL_eq]; omega
        · rw [upL_ne g]; exact h1
    · rw [if_neg (fun g => k2 g.1), if_neg k2]; exact h1
theorem step_ok {r : Row} {a b : Pos} (h : stepP r a b) : ∃ kind c, okP r kind c a ∧ b = mvP r kind c a ∧ ¬ finalP r a ∧ (kind = 3 → pH a (pU a) = 0) := by
  obtain ⟨h0, h⟩ := h
  rcases h with ⟨c, c1, c2, c3, q | ⟨q1, q2⟩⟩ | ⟨t, q⟩ | ⟨z, q⟩
  · exact ⟨1, c, Or.inr (Or.inl ⟨rfl, ⟨c1, c2⟩, c3⟩), q, h0, fun g => by omega⟩
  · exact ⟨0, c, Or.inl ⟨rfl, ⟨c1, c2⟩, c3, q1⟩, q2, h0, fun g => by omega⟩
  · exact ⟨2, -1, Or.inr (Or.inr (Or.inl ⟨rfl, t⟩)), q, h0, fun g => by omega⟩
  · exact ⟨3, -1, Or.inr (Or.inr (Or.inr rfl)), q, h0, fun _ => z⟩
theorem VP_step {r : Row} (hr : RX r) {a b : Pos} (ha : VP r a) (h : stepP r a b) : VP r b := by
  obtain ⟨kind, c, o, e, hf, -⟩ := step_ok h
  rw [e]
  exact mv_ok hr ha o (fun q => hf (Or.inr q))
/-! the twin's packing -/
def pkV (p : Pos) : Int := 8 * (8 * (8 * (8 * (16 * (64 * (4 * (pL p + 1) + pU p) + pN p) + pT p) + pP p 0) + pP p 1) + pP p 2) + pP p 3
theorem pkv_un {r : Row} (hr : RX r) {p : Pos} (hp : VP r p) : (0 ≤ pkV p ∧ pkV p < 2147483648) ∧ pkV p % 8 = pP p 3 ∧ pkV p / 8 % 8 = pP p 2 ∧ pkV p / 8 / 8 % 8 = pP p 1 ∧ pkV p / 8 / 8 / 8 % 8 = pP p 0 ∧ pkV p / 8 / 8 / 8 / 8 % 16 = pT p ∧ pkV p / 8 / 8 / 8 / 8 / 16 % 64 = pN p ∧ pkV p / 8 / 8 / 8 / 8 / 1024 % 4 = pU p ∧ pkV p / 8 / 8 / 8 / 8 / 4096 - 1 = pL p := by
  obtain ⟨hk, h2, h6, hkc⟩ := hr
  obtain ⟨v1, v2, v3, v4, v5, v6, v7⟩ := hp
  have h4 := hk.2.2.1
  have h1 := hk.2.1
  have a0 := v1 0 (by omega) (by omega)
  have a1 := v1 1 (by omega) (by omega)
  have a2 := v1 2 (by omega) (by omega)
  have a3 := v1 3 (by omega) (by omega)
  unfold pkV
  refine ⟨by omega, by omega, by omega, by omega, by omega, by omega, by omega, by omega, by omega⟩
theorem pkv_inj {r : Row} (hr : RX r) {p q : Pos} (hp : VP r p) (hq : VP r q) (h : pkV p = pkV q) (hh : ∀ i, 0 ≤ i → i < 4 → pH p i = pH q i) : p = q := by
  obtain ⟨-, a1, a2, a3, a4, a5, a6, a7, a8⟩ := pkv_un hr hp
  obtain ⟨-, b1, b2, b3, b4, b5, b6, b7, b8⟩ := pkv_un hr hq
  rw [h] at a1 a2 a3 a4 a5 a6 a7 a8
  rw [← mk_eta (p := p), ← mk_eta (p := q)]
  refine mkP_ext.mpr ⟨hh, fun i c d => ?_, by omega, by omega, by omega, by omega⟩
  have : i = 0 ∨ i = 1 ∨ i = 2 ∨ i = 3 := by omega
  rcases this with rfl | rfl | rfl | rfl <;> omega
theorem mv_c {r : Row} {kind c c' : Int} {p : Pos} (h : 2 ≤ kind) : mvP r kind c p = mvP r kind c' p := by
  unfold mvP
  dsimp only
  rw [if_neg (show ¬ kind < 2 by omega), if_neg (show ¬ kind < 2 by omega), if_neg (show ¬ kind = 0 by omega)]
  rw [if_neg (show ¬ kind < 2 by omega), if_neg (show ¬ kind < 2 by omega), if_neg (show ¬ kind = 0 by omega)]
/-! value and number of all positions, as functions -/
noncomputable def valF (r : Row) (p : Pos) : Int := @dite _ (∃ v n, FinP r p n v ∧ n ≤ 4000) (Classical.propDecidable _) (fun h => Classical.choose h) (fun _ => -8)
noncomputable def posF (r : Row) (p : Pos) : Int := @dite _ (∃ n v, FinP r p n v ∧ n ≤ 4000) (Classical.propDecidable _) (fun h => Classical.choose h) (fun _ => -8)
theorem val_fin {r : Row} {p : Pos} {n v : Int} (h : FinP r p n v) (hn : n ≤ 4000) : valF r p = v ∧ posF r p = n := by
  have e1 : ∃ v n, FinP r p n v ∧ n ≤ 4000 := ⟨v, n, h, hn⟩
  have e2 : ∃ n v, FinP r p n v ∧ n ≤ 4000 := ⟨n, v, h, hn⟩
  unfold valF posF
  rw [dif_pos e1, dif_pos e2]
  obtain ⟨n', g1, -⟩ := Classical.choose_spec e1
  obtain ⟨v', g2, -⟩ := Classical.choose_spec e2
  exact ⟨(fin_uniq g1 h).2, (fin_uniq g2 h).1⟩
theorem val_many {r : Row} {p : Pos} (h : ManyP r p) : valF r p = -8 ∧ posF r p = -8 := by
  unfold valF posF
  rw [dif_neg (fun ⟨v, n, a, b⟩ => by have := fin_many a h; omega), dif_neg (fun ⟨n, v, a, b⟩ => by have := fin_many a h; omega)]
  exact ⟨rfl, rfl⟩
theorem score_bd {r : Row} (hr : RX r) {p : Pos} (hp : VP r p) : 0 ≤ scoreP p ∧ scoreP p ≤ 20 := by
  have h1 := hr.1.2.1
  unfold scoreP
  refine ⟨su_nonneg fun c a b => (hp.1 c a b).1, ?_⟩
  have := su_lec (lo := 0) (hi := 4) (c := 5) (f := pP p) (by omega) (fun c a b => by have := hp.1 c a b; omega)
  omega
/-- the present position -/
def handF (r : Row) (p : Int) : Nat → Int64
  | 0 => jL 0
  | k + 1 => setC (handF r p k) (r (191 + 5 * p + k))
def prP (r : Row) : Pos := mkP (fun p => handF r p (r (187 + p)).toNat) (fun c => r (14 + c)) (r 7) (r 5) (r 10) (r 9)
theorem hand_has {r : Row} {p : Int} {n : Nat} (hh : ∀ k : Int, 0 ≤ k → k < n → 0 ≤ r (191 + 5 * p + k) ∧ r (191 + 5 * p + k) < 40) {c : Int} (hc : 0 ≤ c ∧ c < 64) : hasC (handF r p n) c ↔ ∃ k : Int, 0 ≤ k ∧ k < n ∧ r (191 + 5 * p + k) = c := by
  induction n with
  | zero => exact ⟨fun h => absurd h (has_zero hc), fun ⟨k, a, b, _⟩ => by omega⟩
  | succ n ih =>
    have h1 := hh n (by omega) (by omega)
    unfold handF
    rw [has_set (by omega) hc, ih (fun k a b => hh k a (by omega))]
    constructor
    · rintro (⟨k, a, b, e⟩ | e)
      · exact ⟨k, a, by omega, e⟩
      · exact ⟨n, by omega, by omega, e.symm⟩
    · rintro ⟨k, a, b, e⟩
      by_cases g : k = n
      · subst g; exact Or.inr e.symm
      · exact Or.inl ⟨k, a, by omega, e⟩
theorem hand_cnt {r : Row} {p : Int} {n : Nat} (hh : ∀ k : Int, 0 ≤ k → k < n → 0 ≤ r (191 + 5 * p + k) ∧ r (191 + 5 * p + k) < 40) : cntC (handF r p n) ≤ n := by
  induction n with
  | zero => show cntC (jL 0) ≤ _; rw [cnt_zero]; exact Int.le_refl _
  | succ n ih =>
    have h1 := hh n (by omega) (by omega)
    have h2 := ih (fun k a b => hh k a (by omega))
    have h3 := cnt_set (s := handF r p n) (c := r (191 + 5 * p + n)) h1
    show cntC (setC (handF r p n) (r (191 + 5 * p + n))) ≤ _
    omega
theorem RX_of {r : Row} (h : GI r) (h2 : 0 < r 2) : RX r := by
  have hz := h.2.2.2.2.2.2.2.2.2.1 h2
  have h22 := h.1.1.2.2.1
  exact ⟨h.1.rk, by omega, h.2.2.1, h.1.2.2.2.1⟩
theorem VP_pr {r : Row} (h : GI r) (h2 : 0 < r 2) : VP r (prP r) := by
  obtain ⟨hc, h10, h6, h7, h8, h9, h12, h13, hl, hz, hs, hs2⟩ := h
  obtain ⟨hcb, hp, -, -, -, -, -, hsz, hhd, -⟩ := hc
  refine ⟨fun c a b => ?_, h7, hcb.2.2.2.2, ⟨h10.1, h10.2.2 h2⟩, h9, hl h2, fun i a b => ?_⟩
  · have : pP (prP r) c = r (14 + c) := mk_P ⟨a, b⟩
    rw [this]; exact hp c a b
  · have : pH (prP r) i = handF r i (r (187 + i)).toNat := mk_H ⟨a, b⟩
    have hsi := hsz i a b
    have := hand_cnt (r := r) (p := i) (n := (r (187 + i)).toNat) (fun k c d => hhd i k a b c (by omega))
    rw [show pH (prP r) i = handF r i (r (187 + i)).toNat from mk_H ⟨a, b⟩]
    omega
