set_option maxRecDepth 100000
/-! ===== a game as a row of numbers (the twin's), and what its methods compute, as plain functions ===== -/
abbrev Row : Type := Int → Int
def up (r : Row) (i : Int) (v : Int) : Row := fun j => if j = i then v else r j
theorem up_eq {r : Row} {i v : Int} : up r i v i = v := if_pos rfl
theorem up_ne {r : Row} {i j v : Int} (e : j ≠ i) : up r i v j = r j := if_neg e
theorem up_at {r : Row} {i j v : Int} : up r i v j = if j = i then v else r j := rfl
theorem up_up {r : Row} {i v w : Int} : up (up r i v) i w = up r i w := by
  funext j; unfold up; by_cases e : j = i <;> simp [e]
theorem up_id {r : Row} {i : Int} : up r i (r i) = r := by
  funext j; unfold up; by_cases e : j = i <;> simp [e]
/-- the sum of f k over k < n -/
def sm : Nat → (Int → Int) → Int
  | 0, _ => 0
  | n + 1, f => sm n f + f n
/-- the sum of f k over lo ≤ k < hi -/
def su (lo hi : Int) (f : Int → Int) : Int := sm (hi - lo).toNat (fun k => f (lo + k))
theorem sm_congr {n : Nat} {f g : Int → Int} (h : ∀ k : Int, 0 ≤ k → k < n → f k = g k) : sm n f = sm n g := by
  induction n with
  | zero => rfl
  | succ n ih =>
    show sm n f + f n = sm n g + g n
    rw [ih (fun k h0 hk => h k h0 (by omega)), h n (by omega) (by omega)]
theorem sm_nonneg {n : Nat} {f : Int → Int} (h : ∀ k : Int, 0 ≤ k → k < n → 0 ≤ f k) : 0 ≤ sm n f := by
  induction n with
  | zero => exact Int.le_refl 0
  | succ n ih =>
    have h1 := ih (fun k h0 hk => h k h0 (by omega))
    have h2 := h n (by omega) (by omega)
    show 0 ≤ sm n f + f n
    omega
theorem sm_le {n : Nat} {f : Int → Int} {c : Int} (h : ∀ k : Int, 0 ≤ k → k < n → f k ≤ c) : sm n f ≤ n * c := by
  induction n with
  | zero => show (0 : Int) ≤ _; simp
  | succ n ih =>
    have h1 := ih (fun k h0 hk => h k h0 (by omega))
    have h2 := h n (by omega) (by omega)
    show sm n f + f n ≤ _
    have : ((n + 1 : Nat) : Int) * c = n * c + c := by rw [Int.natCast_add, Int.add_mul]; simp
    omega
theorem sm_add {n : Nat} {f g : Int → Int} : sm n (fun k => f k + g k) = sm n f + sm n g := by
  induction n with
  | zero => rfl
  | succ n ih =>
    show sm n (fun k => f k + g k) + (f n + g n) = sm n f + f n + (sm n g + g n)
    rw [ih]; omega
theorem sm_split {n m : Nat} {f : Int → Int} : sm (n + m) f = sm n f + sm m (fun k => f (n + k)) := by
  induction m with
  | zero => show sm n f = sm n f + 0; omega
  | succ m ih =>
    show sm (n + m) f + f ((n + m : Nat) : Int) = sm n f + (sm m (fun k => f (n + k)) + f (n + (m : Int)))
    rw [ih, Int.natCast_add]; omega
theorem su_nil {lo hi : Int} {f : Int → Int} (h : hi ≤ lo) : su lo hi f = 0 := by
  unfold su; rw [show (hi - lo).toNat = 0 by omega]; rfl
theorem su_self {lo : Int} {f : Int → Int} : su lo lo f = 0 := su_nil (Int.le_refl _)
theorem su_succ {lo hi : Int} {f : Int → Int} (h : lo ≤ hi) : su lo (hi + 1) f = su lo hi f + f hi := by
  unfold su
  rw [show (hi + 1 - lo).toNat = (hi - lo).toNat + 1 by omega]
  show sm _ _ + f (lo + ((hi - lo).toNat : Int)) = _
  rw [show lo + ((hi - lo).toNat : Int) = hi by omega]
theorem su_congr {lo hi : Int} {f g : Int → Int} (h : ∀ k, lo ≤ k → k < hi → f k = g k) : su lo hi f = su lo hi g := by
  unfold su
  exact sm_congr fun k h0 h1 => h _ (by omega) (by omega)
theorem su_nonneg {lo hi : Int} {f : Int → Int} (h : ∀ k, lo ≤ k → k < hi → 0 ≤ f k) : 0 ≤ su lo hi f := by
  unfold su
  exact sm_nonneg fun k h0 h1 => h _ (by omega) (by omega)
theorem su_add {lo hi : Int} {f g : Int → Int} : su lo hi (fun k => f k + g k) = su lo hi f + su lo hi g := sm_add
theorem su_split {lo mid hi : Int} {f : Int → Int} (h1 : lo ≤ mid) (h2 : mid ≤ hi) : su lo hi f = su lo mid f + su mid hi f := by
  unfold su
  rw [show (hi - lo).toNat = (mid - lo).toNat + (hi - mid).toNat by omega, sm_split]
  congr 1
  refine sm_congr fun k h3 h4 => ?_
  congr 1; omega
/-- between 0 and its length, where each is 0 or 1 -/
theorem su_le1 {lo hi : Int} {f : Int → Int} (hl : lo ≤ hi) (h : ∀ k, lo ≤ k → k < hi → f k ≤ 1) : su lo hi f ≤ hi - lo := by
  unfold su
  have := sm_le (n := (hi - lo).toNat) (f := fun k => f (lo + k)) (c := 1) (fun k h0 h1 => h _ (by omega) (by omega))
  omega
theorem su_lec {lo hi c : Int} {f : Int → Int} (hl : lo ≤ hi) (h : ∀ k, lo ≤ k → k < hi → f k ≤ c) : su lo hi f ≤ (hi - lo) * c := by
  unfold su
  have := sm_le (n := (hi - lo).toNat) (f := fun k => f (lo + k)) (c := c) (fun k h0 h1 => h _ (by omega) (by omega))
  rwa [show (((hi - lo).toNat : Nat) : Int) = hi - lo by omega] at this
/-- loops, backwards: what holds behind them holds ahead of them -/
theorem up_loop {P : Int → Prop} {lo hi : Int} (hle : lo ≤ hi) (he : P hi) (hs : ∀ k, lo ≤ k → k < hi → P (k + 1) → P k) : P lo := by
  have main : ∀ (n : Nat) (k : Int), lo ≤ k → k + n = hi → P k := by
    intro n
    induction n with
    | zero => intro k _ h; rw [show k = hi by omega]; exact he
    | succ n ih => intro k h1 h2; exact hs k h1 (by omega) (ih (k + 1) (by omega) (by omega))
  exact main (hi - lo).toNat lo (Int.le_refl _) (by omega)
/-! places of the row -/
def colR (kind : Int) : Int := kind / 5
def rnkR (kind : Int) : Int := kind % 5 + 1
def toldR (kind : Int) : Int := 10 * colR kind + rnkR kind
def inDeck (r : Row) (kind : Int) (frm : Int) : Int := su frm (r 4) (fun k => if r (27 + k) = kind then 1 else 0)
def inHandOf (r : Row) (kind : Int) (p : Int) : Int := su 0 (r (187 + p)) (fun k => if r (27 + r (191 + 5 * p + k)) = kind then 1 else 0)
def inHands (r : Row) (kind : Int) (but : Int) : Int := su 0 (r 2) (fun p => if p = but then 0 else inHandOf r kind p)
def goneR (r : Row) (kind : Int) : Prop := inDeck r kind 0 = r (211 + kind)
/-- useless: below the pile, or one of the ranks up to it is gone -/
def uselessR (r : Row) (kind : Int) : Prop := rnkR kind ≤ r (14 + colR kind) ∨ ∃ k : Int, r (14 + colR kind) < k ∧ k ≤ rnkR kind ∧ goneR r (5 * colR kind + k - 1)
def critR (r : Row) (kind : Int) : Prop := ¬ uselessR r kind ∧ inDeck r kind 0 - r (211 + kind) = 1
def nextR (r : Row) (kind : Int) : Prop := rnkR kind = r (14 + colR kind) + 1
def hasB (s k : Int) : Prop := s / 2 ^ k.toNat % 2 = 1
/-- thought possible by player p for a card with such sets left -/
def thoughtR (r : Row) (p : Int) (colors ranks : Int) (kind : Int) : Prop :=
  hasB colors (colR kind) ∧ hasB ranks (rnkR kind - 1) ∧
  r (211 + kind) + (if rnkR kind ≤ r (14 + colR kind) then 1 else 0) + inHands r kind p < inDeck r kind 0
/-- a choice by any proposition -/
noncomputable def ifP {α : Type} (p : Prop) (a b : α) : α := @ite α p (Classical.propDecidable p) a b
theorem ifP_t {α : Type} {p : Prop} {a b : α} (h : p) : ifP p a b = a := if_pos h
theorem ifP_f {α : Type} {p : Prop} {a b : α} (h : ¬ p) : ifP p a b = b := if_neg h
noncomputable def knownR (r : Row) (p colors ranks : Int) : Int :=
  ifP (∀ k, 0 ≤ k → k < 20 → ¬ thoughtR r p colors ranks k) 0 (ifP (∀ k, 0 ≤ k → k < 20 → thoughtR r p colors ranks k → nextR r k) 1 (ifP (∀ k, 0 ≤ k → k < 20 → thoughtR r p colors ranks k → uselessR r k) 2 0))
/-! what a hint does -/
def touchBy (r : Row) (card word value : Int) : Prop := if word = 0 then colR (r (27 + card)) = value else rnkR (r (27 + card)) = value
noncomputable def delB (s k : Int) : Int := ifP (hasB s k) (s - 2 ^ k.toNat) s
noncomputable def andB (s k : Int) : Int := ifP (hasB s k) (2 ^ k.toNat) 0
noncomputable def colBehind (r : Row) (card word value : Int) : Int := if word = 0 then ifP (touchBy r card word value) (andB (r (67 + card)) value) (delB (r (67 + card)) value) else r (67 + card)
noncomputable def rnkBehind (r : Row) (card word value : Int) : Int := if word = 1 then ifP (touchBy r card word value) (andB (r (107 + card)) (value - 1)) (delB (r (107 + card)) (value - 1)) else r (107 + card)
noncomputable def touchedR (r : Row) (p word value : Int) : Int := su 0 (r (187 + p)) (fun k => ifP (touchBy r (r (191 + 5 * p + k)) word value) (2 ^ k.toNat) 0)
noncomputable def tellingR (r : Row) (p word value : Int) : Int := su 0 (r (187 + p)) (fun k =>
  let c := r (191 + 5 * p + k)
  ifP (knownR r p (r (67 + c)) (r (107 + c)) ≠ 1 ∧ knownR r p (colBehind r c word value) (rnkBehind r c word value) = 1) 1 0)
def wordAtR (word value : Int) : Int := if word = 0 then 18 + value else 21 + value
def isWordR (r : Row) (word value : Int) : Prop := (word = 0 ∧ 0 ≤ value ∧ value < r 0) ∨ (word = 1 ∧ 1 ≤ value ∧ value ≤ r 1)
def scoreR (r : Row) : Int := su 0 4 (fun c => r (14 + c))
/-! bounds, place by place -/
def RK (r : Row) : Prop := (0 ≤ r 0 ∧ r 0 ≤ 4) ∧ (0 ≤ r 1 ∧ r 1 ≤ 5) ∧ (0 ≤ r 4 ∧ r 4 ≤ 40) ∧ (∀ c, 0 ≤ c → c < 4 → 0 ≤ r (14 + c) ∧ r (14 + c) ≤ 5) ∧ (∀ c, 0 ≤ c → c < 40 → 0 ≤ r (27 + c) ∧ r (27 + c) < 20) ∧ (∀ k, 0 ≤ k → k < 20 → 0 ≤ r (211 + k) ∧ r (211 + k) ≤ 40)
def RHd (r : Row) : Prop := (0 ≤ r 2 ∧ r 2 ≤ 4) ∧ (0 ≤ r 10 ∧ r 10 < 4) ∧ (∀ p, 0 ≤ p → p < 4 → 0 ≤ r (187 + p) ∧ r (187 + p) ≤ 5) ∧ (∀ p k, 0 ≤ p → p < 4 → 0 ≤ k → k < 5 → 0 ≤ r (191 + 5 * p + k) ∧ r (191 + 5 * p + k) < 40)
def RS (r : Row) : Prop := ∀ c, 0 ≤ c → c < 40 → (0 ≤ r (67 + c) ∧ r (67 + c) < 16) ∧ (0 ≤ r (107 + c) ∧ r (107 + c) < 32) ∧ (0 ≤ r (147 + c) ∧ r (147 + c) ≤ 1)
theorem col_bd {k : Int} (h : 0 ≤ k ∧ k < 20) : 0 ≤ colR k ∧ colR k < 4 := by unfold colR; omega
theorem rnk_bd {k : Int} (h : 0 ≤ k ∧ k < 20) : 1 ≤ rnkR k ∧ rnkR k ≤ 5 := by unfold rnkR; omega
theorem col_rnk {k : Int} : 5 * colR k + rnkR k - 1 = k := by unfold colR rnkR; omega
theorem inDeck_bd {r : Row} (h : RK r) {k frm : Int} (hf : 0 ≤ frm ∧ frm ≤ r 4) : 0 ≤ inDeck r k frm ∧ inDeck r k frm ≤ 40 := by
  have h1 := h.2.2.1
  unfold inDeck
  refine ⟨su_nonneg fun j _ _ => by split <;> omega, ?_⟩
  have := su_le1 (f := fun j => if r (27 + j) = k then 1 else 0) hf.2 (fun j _ _ => by split <;> omega)
  omega
theorem inHandOf_bd {r : Row} (h : RHd r) {k p : Int} (hp : 0 ≤ p ∧ p < 4) : 0 ≤ inHandOf r k p ∧ inHandOf r k p ≤ 5 := by
  have h1 := h.2.2.1 p hp.1 hp.2
  unfold inHandOf
  refine ⟨su_nonneg fun j _ _ => by split <;> omega, ?_⟩
  have := su_le1 (f := fun j => if r (27 + r (191 + 5 * p + j)) = k then 1 else 0) h1.1 (fun j _ _ => by split <;> omega)
  omega
theorem inHands_bd {r : Row} (h : RHd r) {k b : Int} : 0 ≤ inHands r k b ∧ inHands r k b ≤ 20 := by
  have h0 := h.1
  unfold inHands
  have h9 : ∀ p, 0 ≤ p → p < r 2 → 0 ≤ (if p = b then 0 else inHandOf r k p) ∧ (if p = b then 0 else inHandOf r k p) ≤ 5 := fun p h1 h2 => by
    have := inHandOf_bd h (k := k) (p := p) (by omega)
    split <;> omega
  refine ⟨su_nonneg fun p h1 h2 => (h9 p h1 h2).1, ?_⟩
  have := su_lec h0.1 (fun p h1 h2 => (h9 p h1 h2).2)
  omega
/-- the first k < n with P k; -1 -/
noncomputable def fk : Nat → (Int → Prop) → Int
  | 0, _ => -1
  | n + 1, P => if fk n P ≠ -1 then fk n P else ifP (P n) n (-1)
theorem fk_none {n : Nat} {P : Int → Prop} (h : ∀ i : Int, 0 ≤ i → i < n → ¬ P i) : fk n P = -1 := by
  induction n with
  | zero => rfl
  | succ n ih =>
    have h1 := ih (fun i h0 h1 => h i h0 (by omega))
    show (if fk n P ≠ -1 then _ else _) = _
    rw [if_neg (fun q => q h1), ifP_f (h n (by omega) (by omega))]
theorem fk_hit {n : Nat} {P : Int → Prop} {k : Int} (h0 : 0 ≤ k) (h1 : k < n) (h2 : P k) (h3 : ∀ i : Int, 0 ≤ i → i < k → ¬ P i) : fk n P = k := by
  induction n with
  | zero => omega
  | succ n ih =>
    show (if fk n P ≠ -1 then _ else _) = _
    by_cases e : k = n
    · have h4 : fk n P = -1 := fk_none (fun i a b => h3 i a (by omega))
      rw [if_neg (fun q => q h4), ← e, ifP_t h2]
    · have h4 := ih (by omega)
      rw [if_pos (by omega)]; exact h4
/-- what fk says -/
theorem fk_spec {n : Nat} {P : Int → Prop} : (fk n P = -1 ∧ ∀ i : Int, 0 ≤ i → i < n → ¬ P i) ∨ (0 ≤ fk n P ∧ fk n P < n ∧ P (fk n P) ∧ ∀ i : Int, 0 ≤ i → i < fk n P → ¬ P i) := by
  induction n with
  | zero => exact Or.inl ⟨rfl, fun i _ _ => by omega⟩
  | succ n ih =>
    rcases ih with ⟨h1, h2⟩ | ⟨h1, h2, h3, h4⟩
    · by_cases e : P n
      · refine Or.inr ?_
        have h9 : fk (n + 1) P = n := by show (if fk n P ≠ -1 then _ else _) = _; rw [if_neg (fun q => q h1), ifP_t e]
        rw [h9]
        exact ⟨by omega, by omega, e, fun i a b => h2 i a (by omega)⟩
      · refine Or.inl ⟨fk_none fun i a b => ?_, fun i a b => ?_⟩ <;>
        · by_cases q : i = n
          · subst q; exact e
          · exact h2 i a (by omega)
    · refine Or.inr ?_
      have h9 : fk (n + 1) P = fk n P := by show (if fk n P ≠ -1 then _ else _) = _; rw [if_pos (by omega)]
      rw [h9]
      exact ⟨h1, by omega, h3, h4⟩
noncomputable def thinksR (r : Row) (p cs rs : Int) (n : Int) : Int := su 0 n (fun k => ifP (thoughtR r p cs rs k) 1 0)
noncomputable def thoughtAtR (r : Row) (p cs rs index : Int) : Int :=
  if fk 20 (fun k => thoughtR r p cs rs k ∧ thinksR r p cs rs k = index) = -1 then (if index = -1 then thinksR r p cs rs 20 else -1) else toldR (fk 20 (fun k => thoughtR r p cs rs k ∧ thinksR r p cs rs k = index))
theorem thinks_bd {r : Row} {p cs rs n : Int} (h : 0 ≤ n) : 0 ≤ thinksR r p cs rs n ∧ thinksR r p cs rs n ≤ n := by
  unfold thinksR
  have h9 : ∀ k, 0 ≤ ifP (thoughtR r p cs rs k) (1 : Int) 0 ∧ ifP (thoughtR r p cs rs k) (1 : Int) 0 ≤ 1 := fun k => by
    by_cases e : thoughtR r p cs rs k
    · rw [ifP_t e]; omega
    · rw [ifP_f e]; omega
  have := su_le1 h (fun k _ _ => (h9 k).2)
  exact ⟨su_nonneg fun k _ _ => (h9 k).1, by omega⟩
def sayR (r : Row) (p word value : Int) : Prop := 0 < r (wordAtR word value) ∧ touchedR r p word value ≠ 0
def RW (r : Row) : Prop := ∀ w, 18 ≤ w → w < 27 → 0 ≤ r w ∧ r w ≤ 99
theorem pow2_bd {k : Int} (h : 0 ≤ k ∧ k < 5) : 1 ≤ (2 : Int) ^ k.toNat ∧ (2 : Int) ^ k.toNat ≤ 16 := by
  obtain ⟨n, rfl⟩ : ∃ n : Nat, k = n := ⟨k.toNat, by omega⟩
  have : n = 0 ∨ n = 1 ∨ n = 2 ∨ n = 3 ∨ n = 4 := by omega
  rcases this with rfl | rfl | rfl | rfl | rfl <;> decide
theorem pow2_succ {k : Int} (h : 0 ≤ k) : (2 : Int) ^ (k + 1).toNat = 2 * 2 ^ k.toNat := by
  rw [show (k + 1).toNat = k.toNat + 1 by omega, Int.pow_succ, Int.mul_comm]
/-- a sum of the bits of some places -/
theorem bits_bd {n : Nat} {f : Int → Prop} : 0 ≤ sm n (fun k => ifP (f k) (2 ^ k.toNat) 0) ∧ sm n (fun k => ifP (f k) (2 ^ k.toNat) 0) < 2 ^ n := by
  induction n with
  | zero => exact ⟨Int.le_refl _, by show (0 : Int) < 1; omega⟩
  | succ n ih =>
    have h1 : (2 : Int) ^ (n + 1) = 2 * 2 ^ n := by rw [Int.pow_succ, Int.mul_comm]
    have h2 : (0 : Int) < 2 ^ n := Int.pow_pos (by decide)
    show 0 ≤ sm n _ + ifP (f n) (2 ^ (n : Int).toNat) 0 ∧ sm n _ + ifP (f n) (2 ^ (n : Int).toNat) 0 < 2 ^ (n + 1)
    rw [show ((n : Nat) : Int).toNat = n from Int.toNat_natCast n]
    by_cases e : f n
    · rw [ifP_t e]; omega
    · rw [ifP_f e]; omega
theorem su0 {n : Int} {f : Int → Int} : su 0 n f = sm n.toNat f := by
  unfold su
  rw [Int.sub_zero]
  exact sm_congr fun k _ _ => by rw [Int.zero_add]
theorem touched_bd {r : Row} {p word value n : Int} (h0 : 0 ≤ n) : 0 ≤ su 0 n (fun k => ifP (touchBy r (r (191 + 5 * p + k)) word value) (2 ^ k.toNat) 0) ∧ su 0 n (fun k => ifP (touchBy r (r (191 + 5 * p + k)) word value) (2 ^ k.toNat) 0) < 2 ^ n.toNat := by
  rw [su0]; exact bits_bd
theorem hasB_bd {s k : Int} (hs : 0 ≤ s) (hb : hasB s k) : 2 ^ k.toNat ≤ s := by
  unfold hasB at hb
  have h1 : (0 : Int) < 2 ^ k.toNat := Int.pow_pos (by decide)
  by_cases e : s < 2 ^ k.toNat
  · rw [Int.ediv_eq_zero_of_lt hs e] at hb; omega
  · omega
theorem delB_bd {s k n : Int} (hs : 0 ≤ s ∧ s < n) : 0 ≤ delB s k ∧ delB s k < n := by
  unfold delB
  have h1 : (0 : Int) < 2 ^ k.toNat := Int.pow_pos (by decide)
  by_cases e : hasB s k
  · have := hasB_bd hs.1 e; rw [ifP_t e]; omega
  · rw [ifP_f e]; exact hs
theorem andB_bd {s k n : Int} (hs : 0 ≤ s ∧ s < n) : 0 ≤ andB s k ∧ andB s k < n := by
  unfold andB
  have h1 : (0 : Int) < 2 ^ k.toNat := Int.pow_pos (by decide)
  by_cases e : hasB s k
  · have := hasB_bd hs.1 e; rw [ifP_t e]; omega
  · rw [ifP_f e]; omega
theorem colBehind_bd {r : Row} (h : RS r) {c word value : Int} (hc : 0 ≤ c ∧ c < 40) : 0 ≤ colBehind r c word value ∧ colBehind r c word value < 16 := by
  have h1 := (h c hc.1 hc.2).1
  unfold colBehind
  split
  · by_cases e : touchBy r c word value
    · rw [ifP_t e]; exact andB_bd h1
    · rw [ifP_f e]; exact delB_bd h1
  · exact h1
theorem rnkBehind_bd {r : Row} (h : RS r) {c word value : Int} (hc : 0 ≤ c ∧ c < 40) : 0 ≤ rnkBehind r c word value ∧ rnkBehind r c word value < 32 := by
  have h1 := (h c hc.1 hc.2).2.1
  unfold rnkBehind
  split
  · by_cases e : touchBy r c word value
    · rw [ifP_t e]; exact andB_bd h1
    · rw [ifP_f e]; exact delB_bd h1
  · exact h1
theorem knownR_bd {r : Row} {p cs rs : Int} : 0 ≤ knownR r p cs rs ∧ knownR r p cs rs ≤ 2 := by
  unfold knownR ifP
  split
  · omega
  · split
    · omega
    · split <;> omega
def wordOK (word value : Int) : Prop := (word = 0 ∧ 0 ≤ value ∧ value < 4) ∨ (word = 1 ∧ 1 ≤ value ∧ value ≤ 5)
theorem wordOK_of {r : Row} (h : RK r) {word value : Int} (hw : isWordR r word value) : wordOK word value := by
  have h1 := h.1; have h2 := h.2.1
  unfold isWordR at hw; unfold wordOK; omega
theorem wordAt_bd {word value : Int} (h : wordOK word value) : 18 ≤ wordAtR word value ∧ wordAtR word value < 27 := by
  unfold wordOK at h; unfold wordAtR; split <;> omega
theorem su_ifP_bd {n : Int} {P : Int → Prop} (h : 0 ≤ n) : 0 ≤ su 0 n (fun k => ifP (P k) 1 0) ∧ su 0 n (fun k => ifP (P k) 1 0) ≤ n := by
  have h9 : ∀ k, 0 ≤ ifP (P k) (1 : Int) 0 ∧ ifP (P k) (1 : Int) 0 ≤ 1 := fun k => by
    by_cases e : P k
    · rw [ifP_t e]; omega
    · rw [ifP_f e]; omega
  have := su_le1 h (fun k _ _ => (h9 k).2)
  exact ⟨su_nonneg fun k _ _ => (h9 k).1, by omega⟩
/-- the greatest rank that a pile can still get -/
noncomputable def reachR (r : Row) (c : Int) : Int := r (14 + c) + fk 6 (fun j => r 1 ≤ r (14 + c) + j ∨ goneR r (5 * c + (r (14 + c) + j)))
noncomputable def boundR (r : Row) : Int := su 0 (r 0) (fun c => reachR r c)
theorem reach_spec {r : Row} (h : RK r) {c : Int} (hc : 0 ≤ c ∧ c < 4) : r (14 + c) ≤ reachR r c ∧ reachR r c ≤ r (14 + c) + 5 ∧ (r 1 ≤ reachR r c ∨ goneR r (5 * c + reachR r c)) ∧ ∀ k, r (14 + c) ≤ k → k < reachR r c → k < r 1 ∧ ¬ goneR r (5 * c + k) := by
  have h1 := h.2.1
  have h2 := h.2.2.2.1 c hc.1 hc.2
  unfold reachR
  rcases fk_spec (n := 6) (P := fun j => r 1 ≤ r (14 + c) + j ∨ goneR r (5 * c + (r (14 + c) + j))) with ⟨_, h4⟩ | ⟨h3, h4, h5, h6⟩
  · exact absurd (Or.inl (by omega)) (h4 5 (by omega) (by omega))
  · refine ⟨by omega, by omega, h5, fun k a b => ?_⟩
    have h7 := h6 (k - r (14 + c)) (by omega) (by omega)
    rw [show r (14 + c) + (k - r (14 + c)) = k by omega] at h7
    exact ⟨by apply Int.lt_of_not_ge; exact fun q => h7 (Or.inl q), fun q => h7 (Or.inr q)⟩
def countR (r : Row) (past x : Int) : Int := if x = 4 then r 4 - r 5 else if x = 5 then r 7 else if x = 6 then r 8 else if x = 7 then scoreR r else if x = 8 then r 11 else if x = 9 then r 9 else if x = 10 then past else r x
/-! ===== turns, as changes of the row ===== -/
def logsR (r : Row) (kind what more : Int) : Row :=
  up (up (up (up (up r (238 + 4 * (r 13 % 30)) (r 10)) (238 + 4 * (r 13 % 30) + 1) kind) (238 + 4 * (r 13 % 30) + 2) what) (238 + 4 * (r 13 % 30) + 3) more) 13 (r 13 + 1)
def takesOutR (r : Row) (place : Int) : Row := fun j =>
  if j = 187 + r 10 then r j - 1
  else if 191 + 5 * r 10 + place ≤ j ∧ j < 191 + 5 * r 10 + r (187 + r 10) - 1 then r (j + 1) else r j
noncomputable def toHeapR (r : Row) (kind : Int) : Row :=
  up (up r 237 (r 237 + ifP (critR r kind) 1 0)) (211 + kind) (r (211 + kind) + 1)
def tokenBackR (r : Row) : Row := if r 7 < r 6 then up (up r 7 (r 7 + 1)) 235 (r 235 + 1) else r
def drawsR (r : Row) (p : Int) : Row := if r 5 < r 4 then up (up (up r (191 + 5 * p + r (187 + p)) (r 5)) (187 + p) (r (187 + p) + 1)) 5 (r 5 + 1) else r
def wholeR (r : Row) : Prop := ∀ c : Int, 0 ≤ c → c < r 0 → r 1 ≤ r (14 + c)
noncomputable def overR (r : Row) : Int := if r 8 = 0 then 1 else ifP (wholeR r) 2 (if r 9 = 0 then 3 else 0)
def endLeft (r0 r : Row) : Row := if r 9 ≠ -1 then up r 9 (r 9 - 1) else if r0 5 < r 5 ∧ r 5 = r 4 then up r 9 (r 2) else r
def endTurn (r : Row) : Row := up (up r 11 (r 11 + 1)) 10 ((r 10 + 1) % r 2)
noncomputable def endsR (r : Row) (mayDraw : Prop) : Row :=
  let r3 := endTurn (endLeft r (ifP mayDraw (drawsR r (r 10)) r))
  up r3 12 (overR r3)
def kindAt (r : Row) (p k : Int) : Int := r (27 + r (191 + 5 * p + k))
noncomputable def playsR (r : Row) (place : Int) : Row :=
  let kind := kindAt r (r 10) place
  ifP (nextR r kind)
    (let r2 := takesOutR (logsR r 0 (toldR kind) (-1)) place
     let r4 := up (up r2 (14 + colR kind) (r2 (14 + colR kind) + 1)) 231 (r2 231 + 1)
     endsR (if rnkR kind = r 1 then tokenBackR r4 else r4) True)
    (let r2 := toHeapR (takesOutR (logsR r 4 (toldR kind) (-1)) place) kind
     endsR (up (up r2 8 (r2 8 - 1)) 232 (r2 232 + 1)) True)
noncomputable def discardsR (r : Row) (place : Int) : Row :=
  let kind := kindAt r (r 10) place
  let r2 := toHeapR (takesOutR (logsR r 1 (toldR kind) (-1)) place) kind
  endsR (tokenBackR (up r2 233 (r2 233 + 1))) True
/-- the hint told to the first n cards of a hand -/
noncomputable def hintN (p word value : Int) : Nat → Row → Row
  | 0, r => r
  | n + 1, r =>
    let s := hintN p word value n r
    let c := s (191 + 5 * p + n)
    let s2 := up (up s (107 + c) (rnkBehind s c word value)) (67 + c) (colBehind s c word value)
    ifP (touchBy s c word value) (up s2 (147 + c) 1) s2
noncomputable def manyR (r : Row) (p word value : Int) : Int := su 0 (r (187 + p)) (fun k => ifP (touchBy r (r (191 + 5 * p + k)) word value) 1 0)
noncomputable def hintsR (r : Row) (p word value : Int) : Row :=
  let r1 := logsR r 2 p (10 * word + value)
  let r2 := up r1 7 (r1 7 - 1)
  let r3 := up r2 (wordAtR word value) (r2 (wordAtR word value) - 1)
  let r4 := hintN p word value (r (187 + p)).toNat r3
  endsR (up (up r4 234 (r4 234 + 1)) 236 (r4 236 + manyR r p word value)) False
noncomputable def passesR (r : Row) : Row := endsR (logsR r 3 (-1) (-1)) False
/-! what is copied, what is kept -/
/-- row i of f, laid over row j of t -/
def cpR (f : Row) (i : Int) (t : Row) (j : Int) : Row := fun x => if 358 * j ≤ x ∧ x < 358 * j + 358 then f (358 * i + (x - 358 * j)) else t x
def shiftR (t : Row) : Row := fun x => if 0 ≤ x ∧ x < 6802 then t (x + 358) else t x
/-! advice -/
def adUp (o : Row) (a b c d : Int) : Row := up (up (up (up o 0 a) 1 b) 2 c) 3 d
theorem adUp_adUp {o : Row} {a b c d a' b' c' d' : Int} : adUp (adUp o a b c d) a' b' c' d' = adUp o a' b' c' d' := by
  funext j; unfold adUp up
  by_cases h3 : j = 3
  · simp [h3]
  · by_cases h2 : j = 2
    · simp [h2]
    · by_cases h1 : j = 1
      · simp [h1]
      · by_cases h0 : j = 0 <;> simp [h0, h1, h2, h3]
/-- the hints in their order: number n is player turn + n / 16, and word number n % 16 -/
def hP (r : Row) (n : Int) : Int := (r 10 + n / 16) % r 2
def hW (r : Row) (n : Int) : Int := if n % 16 < r 0 then 0 else 1
def hV (r : Row) (n : Int) : Int := if n % 16 < r 0 then n % 16 else n % 16 - r 0 + 1
def hOK (r : Row) (n : Int) : Prop := 0 < r 7 ∧ 1 ≤ n / 16 ∧ n / 16 < r 2 ∧ n % 16 < r 0 + r 1 ∧ sayR r (hP r n) (hW r n) (hV r n)
/-- the first of those that tell most among the first n: its number, how much (must: it must tell something; else the first of all) -/
noncomputable def bestF (r : Row) (must : Prop) : Nat → Int × Int
  | 0 => (-1, ifP must 0 (-1))
  | n + 1 =>
    ifP (hOK r n ∧ (must ∨ (bestF r must n).1 = -1) ∧ (bestF r must n).2 < ifP must (tellingR r (hP r n) (hW r n) (hV r n)) 0)
      ((n : Int), ifP must (tellingR r (hP r n) (hW r n) (hV r n)) 0) (bestF r must n)
noncomputable def bestR (r : Row) (must : Prop) : Int := (bestF r must 64).1
/-- the smallest place with such knowledge (-1: untouched) -/
noncomputable def placeWithR (r : Row) (known : Int) : Int :=
  fk (r (187 + r 10)).toNat (fun k => if known = -1 then r (147 + r (191 + 5 * r 10 + k)) = 0 else knownR r (r 10) (r (67 + r (191 + 5 * r 10 + k))) (r (107 + r (191 + 5 * r 10 + k))) = known)
noncomputable def adviceR (r : Row) (o : Row) : Row :=
  if placeWithR r 1 ≠ -1 then adUp o 0 (placeWithR r 1) (-1) (-1)
  else if bestR r True ≠ -1 then adUp o 2 (hP r (bestR r True)) (hW r (bestR r True)) (hV r (bestR r True))
  else if placeWithR r 2 ≠ -1 then adUp o 1 (placeWithR r 2) (-1) (-1)
  else if placeWithR r (-1) ≠ -1 then adUp o 1 (placeWithR r (-1)) (-1) (-1)
  else if bestR r False ≠ -1 then adUp o 2 (hP r (bestR r False)) (hW r (bestR r False)) (hV r (bestR r False))
  else if r (187 + r 10) = 0 then adUp o 3 (-1) (-1) (-1) else adUp o 1 0 (-1) (-1)
/-- a turn as advised -/
noncomputable def followsR (r : Row) : Row :=
  if adviceR r r 0 = 0 then playsR r (adviceR r r 1) else if adviceR r r 0 = 1 then discardsR r (adviceR r r 1)
  else if adviceR r r 0 = 2 then hintsR r (adviceR r r 1) (adviceR r r 2) (adviceR r r 3) else passesR r
/-! what stays -/
theorem logs_at {r : Row} {k w q j : Int} (h : 0 ≤ r 13) (hj : j < 238) (h2 : j ≠ 13) : logsR r k w q j = r j := by
  unfold logsR
  rw [up_ne h2, up_ne (by omega), up_ne (by omega), up_ne (by omega), up_ne (by omega)]
theorem takes_at {r : Row} {x j : Int} (h : 0 ≤ r 10 ∧ r 10 < 4) (h5 : r (187 + r 10) ≤ 5) (hx : 0 ≤ x) (hj : j < 187 ∨ 211 ≤ j) : takesOutR r x j = r j := by
  unfold takesOutR
  rw [if_neg (by omega), if_neg (by omega)]
theorem toHeap_at {r : Row} {k j : Int} (h1 : j ≠ 237) (h2 : j ≠ 211 + k) : toHeapR r k j = r j := by
  unfold toHeapR
  rw [up_ne h2, up_ne h1]
theorem tokenBack_at {r : Row} {j : Int} (h1 : j ≠ 7) (h2 : j ≠ 235) : tokenBackR r j = r j := by
  unfold tokenBackR
  split
  · rw [up_ne h2, up_ne h1]
  · rfl
/-- the places that RK speaks of, but for piles and heap -/
theorem RK_same {r r' : Row} (h : ∀ j, (j = 0 ∨ j = 1 ∨ j = 4 ∨ (14 ≤ j ∧ j < 18) ∨ (27 ≤ j ∧ j < 67) ∨ (211 ≤ j ∧ j < 231)) → r' j = r j) (hr : RK r) : RK r' := by
  obtain ⟨h1, h2, h3, h4, h5, h6⟩ := hr
  refine ⟨by rw [h 0 (by omega)]; exact h1, by rw [h 1 (by omega)]; exact h2, by rw [h 4 (by omega)]; exact h3, fun c a b => ?_, fun c a b => ?_, fun c a b => ?_⟩
  · rw [h _ (by omega)]; exact h4 c a b
  · rw [h _ (by omega)]; exact h5 c a b
  · rw [h _ (by omega)]; exact h6 c a b
def RP (r : Row) : Prop := (0 ≤ r 0 ∧ r 0 ≤ 4) ∧ (0 ≤ r 1 ∧ r 1 ≤ 5) ∧ (0 ≤ r 4 ∧ r 4 ≤ 40) ∧ (∀ c, 0 ≤ c → c < 4 → 0 ≤ r (14 + c) ∧ r (14 + c) ≤ 5)
theorem RK.rp {r : Row} (h : RK r) : RP r := ⟨h.1, h.2.1, h.2.2.1, h.2.2.2.1⟩
theorem RP_same {r r' : Row} (h : ∀ j, (j = 0 ∨ j = 1 ∨ j = 4 ∨ (14 ≤ j ∧ j < 18)) → r' j = r j) (hr : RP r) : RP r' := by
  obtain ⟨h1, h2, h3, h4⟩ := hr
  refine ⟨by rw [h 0 (by omega)]; exact h1, by rw [h 1 (by omega)]; exact h2, by rw [h 4 (by omega)]; exact h3, fun c a b => ?_⟩
  rw [h _ (by omega)]; exact h4 c a b
theorem RHd_same {r r' : Row} (h : ∀ j, (j = 2 ∨ j = 10 ∨ (187 ≤ j ∧ j < 211)) → r' j = r j) (hr : RHd r) : RHd r' := by
  obtain ⟨h1, h2, h3, h4⟩ := hr
  refine ⟨by rw [h 2 (by omega)]; exact h1, by rw [h 10 (by omega)]; exact h2, fun c a b => ?_, fun c k a b e f => ?_⟩
  · rw [h _ (by omega)]; exact h3 c a b
  · rw [h _ (by omega)]; exact h4 c k a b e f
theorem RS_same {r r' : Row} (h : ∀ j, (67 ≤ j ∧ j < 187) → r' j = r j) (hr : RS r) : RS r' := by
  intro c a b
  rw [h _ (by omega), h _ (by omega), h _ (by omega)]; exact hr c a b
theorem RW_same {r r' : Row} (h : ∀ j, (18 ≤ j ∧ j < 27) → r' j = r j) (hr : RW r) : RW r' := by
  intro c a b
  rw [h _ (by omega)]; exact hr c a b
/-- all bounds of a game -/
def RB (r : Row) : Prop := RK r ∧ RHd r ∧ RS r ∧ RW r ∧ (0 ≤ r 5 ∧ r 5 ≤ r 4) ∧ (0 ≤ r 6 ∧ r 6 ≤ 9) ∧ (0 ≤ r 7 ∧ r 7 ≤ r 6) ∧ (0 ≤ r 8 ∧ r 8 ≤ 5) ∧ (-1 ≤ r 9 ∧ r 9 ≤ 4) ∧ (0 ≤ r 12 ∧ r 12 ≤ 3) ∧ (0 ≤ r 13 ∧ r 13 ≤ 1000) ∧ (r 12 = 0 → 0 < r 2 ∧ r 10 < r 2)
theorem kindAt_logs {r : Row} (h13 : 0 ≤ r 13) (hq : RHd r) {k w q x : Int} (hx : 0 ≤ x ∧ x < 5) : kindAt (logsR r k w q) (logsR r k w q 10) x = kindAt r (r 10) x := by
  have h1 := hq.2.1
  have h2 := hq.2.2.2 _ _ h1.1 h1.2 hx.1 hx.2
  unfold kindAt
  rw [logs_at (j := 10) h13 (by omega) (by omega), logs_at (j := 191 + 5 * r 10 + x) h13 (by omega) (by omega), logs_at h13 (by omega) (by omega)]
theorem RHd_takes {r : Row} (hq : RHd r) {x : Int} (hx : 0 ≤ x ∧ x < r (187 + r 10)) : RHd (takesOutR r x) ∧ takesOutR r x (187 + takesOutR r x 10) < 5 := by
  obtain ⟨h1, h2, h3, h4⟩ := hq
  have h5 := h3 _ h2.1 h2.2
  have e2 : takesOutR r x 2 = r 2 := takes_at h2 h5.2 hx.1 (by omega)
  have e10 : takesOutR r x 10 = r 10 := takes_at h2 h5.2 hx.1 (by omega)
  refine ⟨⟨by rw [e2]; exact h1, by rw [e10]; exact h2, fun p a b => ?_, fun p k a b c e => ?_⟩, ?_⟩
  · have := h3 p a b
    unfold takesOutR
    split
    · next q => rw [q]; omega
    · rw [if_neg (by omega)]; exact this
  · unfold takesOutR
    rw [if_neg (by omega)]
    split
    · next q =>
      have e9 : p = r 10 := by omega
      have := h4 p (k + 1) a b (by omega) (by omega)
      rw [← Int.add_assoc] at this
      exact this
    · exact h4 p k a b c e
  · rw [e10]
    unfold takesOutR
    rw [if_pos rfl]; omega
/-! a hint told to some cards -/
theorem hintN_at {p w v : Int} {n : Nat} {r : Row} {j : Int} (hc : ∀ k : Int, 0 ≤ k → k < n → 0 ≤ r (191 + 5 * p + k) ∧ r (191 + 5 * p + k) < 40) (hp : 0 ≤ p) (hj : j < 67 ∨ 187 ≤ j) : hintN p w v n r j = r j := by
  induction n generalizing j with
  | zero => rfl
  | succ n ih =>
    have ih' := fun j => ih (j := j) (fun k a b => hc k a (by omega))
    have h1 := hc n (by omega) (by omega)
    have h2 := ih' (191 + 5 * p + n) (by omega)
    unfold hintN
    dsimp only
    rw [h2]
    have h3 : ∀ y : Row, y j = r j → ifP (touchBy (hintN p w v n r) (r (191 + 5 * p + n)) w v) (up y (147 + r (191 + 5 * p + n)) 1) y j = r j := fun y hy => by
      by_cases e : touchBy (hintN p w v n r) (r (191 + 5 * p + n)) w v
      · rw [ifP_t e, up_ne (by omega)]; exact hy
      · rw [ifP_f e]; exact hy
    apply h3
    rw [up_ne (by omega), up_ne (by omega)]
    exact ih' j hj
theorem RS_hintN {p w v : Int} {n : Nat} {r : Row} (hc : ∀ k : Int, 0 ≤ k → k < n → 0 ≤ r (191 + 5 * p + k) ∧ r (191 + 5 * p + k) < 40) (hp : 0 ≤ p) (hs : RS r) : RS (hintN p w v n r) := by
  induction n with
  | zero => exact hs
  | succ n ih =>
    have ih' := ih (fun k a b => hc k a (by omega))
    have h1 := hc n (by omega) (by omega)
    have h2 : hintN p w v n r (191 + 5 * p + n) = r (191 + 5 * p + n) := hintN_at (fun k a b => hc k a (by omega)) hp (by omega)
    have hcb := colBehind_bd ih' (word := w) (value := v) h1
    have hrb := rnkBehind_bd ih' (word := w) (value := v) h1
    unfold hintN
    dsimp only
    rw [h2]
    generalize hintN p w v n r = s at *
    generalize r (191 + 5 * p + n) = c at *
    have key : RS (up (up s (107 + c) (rnkBehind s c w v)) (67 + c) (colBehind s c w v)) := by
      intro i a b
      obtain ⟨q1, q2, q3⟩ := ih' i a b
      refine ⟨?_, ?_, ?_⟩
      · by_cases e : i = c
        · subst e; rw [up_eq]; exact hcb
        · rw [up_ne (by omega), up_ne (by omega)]; exact q1
      · by_cases e : i = c
        · subst e; rw [up_ne (by omega), up_eq]; exact hrb
        · rw [up_ne (by omega), up_ne (by omega)]; exact q2
      · rw [up_ne (by omega), up_ne (by omega)]; exact q3
    by_cases e : touchBy s c w v
    · rw [ifP_t e]
      intro i a b
      obtain ⟨q1, q2, q3⟩ := key i a b
      refine ⟨by rw [up_ne (by omega)]; exact q1, by rw [up_ne (by omega)]; exact q2, ?_⟩
      by_cases e : i = c
      · subst e; rw [up_eq]; omega
      · rw [up_ne (by omega)]; exact q3
    · rw [ifP_f e]; exact key
theorem touchBy_same {r r' : Row} {c w v : Int} (h : r' (27 + c) = r (27 + c)) : touchBy r' c w v ↔ touchBy r c w v := by
  unfold touchBy; rw [h]
theorem bestF_skip {r : Row} {must : Prop} {a b : Nat} (hab : a ≤ b) (h : ∀ i : Nat, a ≤ i → i < b → ¬ hOK r i) : bestF r must b = bestF r must a := by
  induction b with
  | zero => rw [show a = 0 by omega]
  | succ b ih =>
    by_cases e : a = b + 1
    · rw [e]
    · rw [← ih (by omega) (fun i h1 h2 => h i h1 (by omega))]
      exact ifP_f (fun q => h b (by omega) (by omega) q.1)
theorem telling_bd {r : Row} (hq : RHd r) {p w v : Int} (hp : 0 ≤ p ∧ p < 4) : 0 ≤ tellingR r p w v ∧ tellingR r p w v ≤ 5 := by
  have h1 := hq.2.2.1 p hp.1 hp.2
  have := su_ifP_bd (P := fun k => knownR r p (r (67 + r (191 + 5 * p + k))) (r (107 + r (191 + 5 * p + k))) ≠ 1 ∧ knownR r p (colBehind r (r (191 + 5 * p + k)) w v) (rnkBehind r (r (191 + 5 * p + k)) w v) = 1) h1.1
  unfold tellingR
  dsimp only
  omega
theorem hP_bd {r : Row} {n : Int} (h2 : 0 < r 2 ∧ r 2 ≤ 4) : 0 ≤ hP r n ∧ hP r n < 4 := by
  unfold hP
  have h1 := Int.emod_nonneg (r 10 + n / 16) (show r 2 ≠ 0 by omega)
  have h3 := Int.emod_lt_of_pos (r 10 + n / 16) (show 0 < r 2 by omega)
  omega
theorem bestF_bd {r : Row} (hq : RHd r) {must : Prop} {n : Nat} : (-1 ≤ (bestF r must n).1 ∧ (bestF r must n).1 < n) ∧ -1 ≤ (bestF r must n).2 ∧ (bestF r must n).2 ≤ 5 := by
  induction n with
  | zero =>
    unfold bestF
    by_cases e : must
    · rw [ifP_t e]; dsimp only; omega
    · rw [ifP_f e]; dsimp only; omega
  | succ n ih =>
    unfold bestF
    by_cases e : hOK r n ∧ (must ∨ (bestF r must n).1 = -1) ∧ (bestF r must n).2 < ifP must (tellingR r (hP r n) (hW r n) (hV r n)) 0
    · rw [ifP_t e]
      have h2 := e.1
      unfold hOK at h2
      have h1 := hq.1
      have ht := telling_bd hq (p := hP r n) (w := hW r n) (v := hV r n) (hP_bd (by omega))
      dsimp only
      by_cases e : must
      · rw [ifP_t e]; omega
      · rw [ifP_f e]; omega
    · rw [ifP_f e]; omega
noncomputable def advF (r : Row) (must : Prop) (o : Row) (n : Nat) : Row := if (bestF r must n).1 = -1 then o else adUp o 2 (hP r (bestF r must n).1) (hW r (bestF r must n).1) (hV r (bestF r must n).1)
theorem hWV_ok {r : Row} (h0 : 0 ≤ r 0 ∧ r 0 ≤ 4) (h1 : 0 ≤ r 1 ∧ r 1 ≤ 5) {n : Int} (hn : n % 16 < r 0 + r 1) : wordOK (hW r n) (hV r n) := by
  have := Int.emod_nonneg n (show (16 : Int) ≠ 0 by omega)
  unfold wordOK hW hV
  split <;> omega
/-! ===== the twin in the heap: at m the object, behind it its arrays 1 .. 14; S 0 f: its int fields, S k j: the elements of array k, L k j: of the arrays of longs ===== -/
def aRef (f : Nat) : Nat := if f = 520 then 1 else if f = 521 then 2 else if f = 522 then 3 else if f = 523 then 4 else if f = 524 then 5 else if f = 525 then 6 else if f = 528 then 7 else if f = 538 then 8 else if f = 539 then 9 else if f = 540 then 10 else if f = 541 then 11 else if f = 543 then 12 else if f = 544 then 13 else if f = 549 then 14 else 0
def aTag (k : Nat) : Nat := if k = 6 then 202 else if k = 7 then 201 else if k = 9 then 203 else if k = 12 then 203 else if k = 14 then 201 else 200
def aLen (k : Nat) : Nat := if k = 1 then 358 else if k = 2 then 358 else if k = 3 then 358 else if k = 4 then 7160 else if k = 5 then 716 else if k = 6 then 2 else if k = 7 then 600 else if k = 8 then 4 else if k = 9 then 16080 else if k = 10 then 4020 else if k = 11 then 16384 else if k = 12 then 4 else if k = 13 then 4 else if k = 14 then 20 else 0
def MH (h0 : VH) (m : Nat) (S : Nat → Row) (L : Nat → Int → Int64) : VH :=
  (fun b => if b = m then (14, fun f => jI (S 0 f), fun _ => 0, fun f => if aRef f = 0 then 0 else m + aRef f, 0)
    else if m < b ∧ b ≤ m + 14 then (aTag (b - m), fun j => jI (S (b - m) j), fun j => L (b - m) j, fun _ => 0, aLen (b - m)) else h0.1 b, h0.2.1, h0.2.2)
def sr {α : Type} (S : Nat → α) (k : Nat) (r : α) : Nat → α := fun k' => if k' = k then r else S k'
def upL (r : Int → Int64) (i : Int) (v : Int64) : Int → Int64 := fun j => if j = i then v else r j
theorem sr_eq {α : Type} {S : Nat → α} {k : Nat} {r : α} : sr S k r k = r := if_pos rfl
theorem sr_ne {α : Type} {S : Nat → α} {k k' : Nat} {r : α} (e : k' ≠ k) : sr S k r k' = S k' := if_neg e
theorem sr_sr {α : Type} {S : Nat → α} {k : Nat} {r r' : α} : sr (sr S k r) k r' = sr S k r' := by
  funext j; unfold sr; by_cases e : j = k <;> simp [e]
theorem sr_id {α : Type} {S : Nat → α} {k : Nat} : sr S k (S k) = S := by
  funext j; unfold sr; by_cases e : j = k <;> simp [e]
theorem sr_com {α : Type} {S : Nat → α} {k j : Nat} {r r' : α} (e : k ≠ j) : sr (sr S k r) j r' = sr (sr S j r') k r := by
  funext i; unfold sr; by_cases e1 : i = k <;> by_cases e2 : i = j <;> simp_all
theorem sr_lt {α : Type} {S : Nat → α} {k j : Nat} {r r' : α} (e : j < k) : sr (sr S k r) j r' = sr (sr S j r') k r := sr_com (by omega)
theorem upL_eq {r : Int → Int64} {i : Int} {v : Int64} : upL r i v i = v := if_pos rfl
theorem upL_ne {r : Int → Int64} {i j : Int} {v : Int64} (e : j ≠ i) : upL r i v j = r j := if_neg e
section MHA
variable {h0 : VH} {m : Nat} {S : Nat → Row} {L : Nat → Int → Int64}
theorem M_hz : hz (MH h0 m S L) = hz h0 := rfl
theorem M_hs : hs (MH h0 m S L) = hs h0 := rfl
theorem M_kd : kd (MH h0 m S L) m = 14 := by unfold kd MH; simp
theorem MH_arr {k : Nat} (h1 : 1 ≤ k) (h2 : k ≤ 14) : (MH h0 m S L).1 (m + k) = ((aTag k, fun j : Nat => jI (S k j), fun j : Nat => L k j, fun _ => 0, aLen k) : VC) := by
  show (if m + k = m then _ else if m < m + k ∧ m + k ≤ m + 14 then _ else _) = _
  rw [if_neg (by omega), if_pos (by omega), Nat.add_sub_cancel_left]
theorem M_ref {f : Nat} : gR (MH h0 m S L) f m = if aRef f = 0 then 0 else m + aRef f := by unfold gR MH; simp
theorem M_get0 {f : Nat} : gI (MH h0 m S L) f m = jI (S 0 f) := by unfold gI MH; simp
theorem MH_put {k : Nat} (h1 : 1 ≤ k) (h2 : k ≤ 14) {z v : Int} (hz0 : 0 ≤ z) (hz1 : z < 2147483648) : sI (MH h0 m S L) (jI z).toNatClampNeg (m + k) (jI v) = MH h0 m (sr S k (up (S k) z v)) L := by
  rw [jI_clamp hz0 hz1]
  unfold sI hset
  rw [MH_arr h1 h2]
  unfold MH
  refine Prod.ext ?_ rfl
  funext b
  show (if b = m + k then _ else if b = m then _ else _) = _
  by_cases e : b = m + k
  · subst e
    rw [if_pos rfl]
    show _ = (if m + k = m then _ else if m < m + k ∧ m + k ≤ m + 14 then _ else _)
    rw [if_neg (by omega), if_pos (by omega), Nat.add_sub_cancel_left]
    refine Prod.ext rfl (Prod.ext ?_ rfl)
    funext j
    show (if j = z.toNat then jI v else jI (S k j)) = jI (sr S k (up (S k) z v) k j)
    rw [sr_eq]; unfold up
    by_cases e : j = z.toNat
    · rw [if_pos e, if_pos (by omega)]
    · rw [if_neg e, if_neg (by omega)]
  · rw [if_neg e]
    by_cases e2 : b = m
    · subst e2; rw [if_pos rfl]; rw [sr_ne (by omega)]; exact (if_pos rfl).symm
    · rw [if_neg e2]
      show _ = (if b = m then _ else _)
      rw [if_neg e2]
      by_cases e3 : m < b ∧ b ≤ m + 14
      · rw [if_pos e3, if_pos e3, sr_ne (by omega)]
      · rw [if_neg e3, if_neg e3]
theorem MH_putL {k : Nat} (h1 : 1 ≤ k) (h2 : k ≤ 14) {z : Int} {v : Int64} (hz0 : 0 ≤ z) (hz1 : z < 2147483648) : sL (MH h0 m S L) (jI z).toNatClampNeg (m + k) v = MH h0 m S (sr L k (upL (L k) z v)) := by
  rw [jI_clamp hz0 hz1]
  unfold sL hset
  rw [MH_arr h1 h2]
  unfold MH
  refine Prod.ext ?_ rfl
  funext b
  show (if b = m + k then _ else if b = m then _ else _) = _
  by_cases e : b = m + k
  · subst e
    rw [if_pos rfl]
    show _ = (if m + k = m then _ else if m < m + k ∧ m + k ≤ m + 14 then _ else _)
    rw [if_neg (by omega), if_pos (by omega), Nat.add_sub_cancel_left]
    refine Prod.ext rfl (Prod.ext rfl (Prod.ext ?_ rfl))
    funext j
    show (if j = z.toNat then v else L k j) = sr L k (upL (L k) z v) k j
    rw [sr_eq]; unfold upL
    by_cases e : j = z.toNat
    · rw [if_pos e, if_pos (by omega)]
    · rw [if_neg e, if_neg (by omega)]
  · rw [if_neg e]
    by_cases e2 : b = m
    · subst e2; rw [if_pos rfl]; exact (if_pos rfl).symm
    · rw [if_neg e2]
      show _ = (if b = m then _ else _)
      rw [if_neg e2]
      by_cases e3 : m < b ∧ b ≤ m + 14
      · rw [if_pos e3, if_pos e3, sr_ne (by omega)]
      · rw [if_neg e3, if_neg e3]
theorem MH_put0 {f : Nat} {v : Int} : sI (MH h0 m S L) f m (jI v) = MH h0 m (sr S 0 (up (S 0) f v)) L := by
  unfold sI hset MH
  refine Prod.ext ?_ rfl
  funext b
  show (if b = m then _ else if b = m then _ else _) = (if b = m then _ else _)
  by_cases e : b = m
  · subst e
    rw [if_pos rfl, if_pos rfl]
    simp only [↓reduceIte, cI]
    refine Prod.ext rfl (Prod.ext ?_ rfl)
    funext j
    show (if j = f then jI v else jI (S 0 j)) = jI (sr S 0 (up (S 0) f v) 0 j)
    rw [sr_eq]; unfold up
    by_cases e : j = f
    · rw [if_pos e, if_pos (by omega)]
    · rw [if_neg e, if_neg (by omega)]
  · rw [if_neg e, if_neg e, if_neg e]
    by_cases e3 : m < b ∧ b ≤ m + 14
    · rw [if_pos e3, if_pos e3, sr_ne (by omega)]
    · rw [if_neg e3, if_neg e3]
theorem M_ref1 : gR (MH h0 m S L) 520 m = m + 1 := by rw [M_ref]; rfl
theorem M_kd1 : kd (MH h0 m S L) (m + 1) = 200 := by unfold kd; rw [MH_arr (by omega) (by omega)]; rfl
theorem M_ln1 : ln (MH h0 m S L) (m + 1) = 358 := by unfold ln; rw [MH_arr (by omega) (by omega)]; rfl
theorem M_get1 {z : Int} (h1 : 0 ≤ z) (h2 : z < 2147483648) : gI (MH h0 m S L) (jI z).toNatClampNeg (m + 1) = jI (S 1 z) := by rw [jI_clamp h1 h2]; unfold gI; rw [MH_arr (by omega) (by omega)]; show jI (S 1 (z.toNat : Int)) = _; rw [Int.toNat_of_nonneg h1]
theorem M_put1 {z v : Int} (h1 : 0 ≤ z) (h2 : z < 2147483648) : sI (MH h0 m S L) (jI z).toNatClampNeg (m + 1) (jI v) = MH h0 m (sr S 1 (up (S 1) z v)) L := MH_put (by omega) (by omega) h1 h2
theorem M_ref2 : gR (MH h0 m S L) 521 m = m + 2 := by rw [M_ref]; rfl
theorem M_kd2 : kd (MH h0 m S L) (m + 2) = 200 := by unfold kd; rw [MH_arr (by omega) (by omega)]; rfl
theorem M_ln2 : ln (MH h0 m S L) (m + 2) = 358 := by unfold ln; rw [MH_arr (by omega) (by omega)]; rfl
theorem M_get2 {z : Int} (h1 : 0 ≤ z) (h2 : z < 2147483648) : gI (MH h0 m S L) (jI z).toNatClampNeg (m + 2) = jI (S 2 z) := by rw [jI_clamp h1 h2]; unfold gI; rw [MH_arr (by omega) (by omega)]; show jI (S 2 (z.toNat : Int)) = _; rw [Int.toNat_of_nonneg h1]
theorem M_put2 {z v : Int} (h1 : 0 ≤ z) (h2 : z < 2147483648) : sI (MH h0 m S L) (jI z).toNatClampNeg (m + 2) (jI v) = MH h0 m (sr S 2 (up (S 2) z v)) L := MH_put (by omega) (by omega) h1 h2
theorem M_ref3 : gR (MH h0 m S L) 522 m = m + 3 := by rw [M_ref]; rfl
theorem M_kd3 : kd (MH h0 m S L) (m + 3) = 200 := by unfold kd; rw [MH_arr (by omega) (by omega)]; rfl
theorem M_ln3 : ln (MH h0 m S L) (m + 3) = 358 := by unfold ln; rw [MH_arr (by omega) (by omega)]; rfl
theorem M_get3 {z : Int} (h1 : 0 ≤ z) (h2 : z < 2147483648) : gI (MH h0 m S L) (jI z).toNatClampNeg (m + 3) = jI (S 3 z) := by rw [jI_clamp h1 h2]; unfold gI; rw [MH_arr (by omega) (by omega)]; show jI (S 3 (z.toNat : Int)) = _; rw [Int.toNat_of_nonneg h1]
theorem M_put3 {z v : Int} (h1 : 0 ≤ z) (h2 : z < 2147483648) : sI (MH h0 m S L) (jI z).toNatClampNeg (m + 3) (jI v) = MH h0 m (sr S 3 (up (S 3) z v)) L := MH_put (by omega) (by omega) h1 h2
theorem M_ref4 : gR (MH h0 m S L) 523 m = m + 4 := by rw [M_ref]; rfl
theorem M_kd4 : kd (MH h0 m S L) (m + 4) = 200 := by unfold kd; rw [MH_arr (by omega) (by omega)]; rfl
theorem M_ln4 : ln (MH h0 m S L) (m + 4) = 7160 := by unfold ln; rw [MH_arr (by omega) (by omega)]; rfl
theorem M_get4 {z : Int} (h1 : 0 ≤ z) (h2 : z < 2147483648) : gI (MH h0 m S L) (jI z).toNatClampNeg (m + 4) = jI (S 4 z) := by rw [jI_clamp h1 h2]; unfold gI; rw [MH_arr (by omega) (by omega)]; show jI (S 4 (z.toNat : Int)) = _; rw [Int.toNat_of_nonneg h1]
theorem M_put4 {z v : Int} (h1 : 0 ≤ z) (h2 : z < 2147483648) : sI (MH h0 m S L) (jI z).toNatClampNeg (m + 4) (jI v) = MH h0 m (sr S 4 (up (S 4) z v)) L := MH_put (by omega) (by omega) h1 h2
theorem M_ref5 : gR (MH h0 m S L) 524 m = m + 5 := by rw [M_ref]; rfl
theorem M_kd5 : kd (MH h0 m S L) (m + 5) = 200 := by unfold kd; rw [MH_arr (by omega) (by omega)]; rfl
theorem M_ln5 : ln (MH h0 m S L) (m + 5) = 716 := by unfold ln; rw [MH_arr (by omega) (by omega)]; rfl
theorem M_get5 {z : Int} (h1 : 0 ≤ z) (h2 : z < 2147483648) : gI (MH h0 m S L) (jI z).toNatClampNeg (m + 5) = jI (S 5 z) := by rw [jI_clamp h1 h2]; unfold gI; rw [MH_arr (by omega) (by omega)]; show jI (S 5 (z.toNat : Int)) = _; rw [Int.toNat_of_nonneg h1]
theorem M_put5 {z v : Int} (h1 : 0 ≤ z) (h2 : z < 2147483648) : sI (MH h0 m S L) (jI z).toNatClampNeg (m + 5) (jI v) = MH h0 m (sr S 5 (up (S 5) z v)) L := MH_put (by omega) (by omega) h1 h2
theorem M_ref6 : gR (MH h0 m S L) 525 m = m + 6 := by rw [M_ref]; rfl
theorem M_kd6 : kd (MH h0 m S L) (m + 6) = 202 := by unfold kd; rw [MH_arr (by omega) (by omega)]; rfl
theorem M_ln6 : ln (MH h0 m S L) (m + 6) = 2 := by unfold ln; rw [MH_arr (by omega) (by omega)]; rfl
theorem M_get6 {z : Int} (h1 : 0 ≤ z) (h2 : z < 2147483648) : gI (MH h0 m S L) (jI z).toNatClampNeg (m + 6) = jI (S 6 z) := by rw [jI_clamp h1 h2]; unfold gI; rw [MH_arr (by omega) (by omega)]; show jI (S 6 (z.toNat : Int)) = _; rw [Int.toNat_of_nonneg h1]
theorem M_put6 {z v : Int} (h1 : 0 ≤ z) (h2 : z < 2147483648) : sI (MH h0 m S L) (jI z).toNatClampNeg (m + 6) (jI v) = MH h0 m (sr S 6 (up (S 6) z v)) L := MH_put (by omega) (by omega) h1 h2
theorem M_ref7 : gR (MH h0 m S L) 528 m = m + 7 := by rw [M_ref]; rfl
theorem M_kd7 : kd (MH h0 m S L) (m + 7) = 201 := by unfold kd; rw [MH_arr (by omega) (by omega)]; rfl
theorem M_ln7 : ln (MH h0 m S L) (m + 7) = 600 := by unfold ln; rw [MH_arr (by omega) (by omega)]; rfl
theorem M_get7 {z : Int} (h1 : 0 ≤ z) (h2 : z < 2147483648) : gI (MH h0 m S L) (jI z).toNatClampNeg (m + 7) = jI (S 7 z) := by rw [jI_clamp h1 h2]; unfold gI; rw [MH_arr (by omega) (by omega)]; show jI (S 7 (z.toNat : Int)) = _; rw [Int.toNat_of_nonneg h1]
theorem M_put7 {z v : Int} (h1 : 0 ≤ z) (h2 : z < 2147483648) : sI (MH h0 m S L) (jI z).toNatClampNeg (m + 7) (jI v) = MH h0 m (sr S 7 (up (S 7) z v)) L := MH_put (by omega) (by omega) h1 h2
theorem M_ref8 : gR (MH h0 m S L) 538 m = m + 8 := by rw [M_ref]; rfl
theorem M_kd8 : kd (MH h0 m S L) (m + 8) = 200 := by unfold kd; rw [MH_arr (by omega) (by omega)]; rfl
theorem M_ln8 : ln (MH h0 m S L) (m + 8) = 4 := by unfold ln; rw [MH_arr (by omega) (by omega)]; rfl
theorem M_get8 {z : Int} (h1 : 0 ≤ z) (h2 : z < 2147483648) : gI (MH h0 m S L) (jI z).toNatClampNeg (m + 8) = jI (S 8 z) := by rw [jI_clamp h1 h2]; unfold gI; rw [MH_arr (by omega) (by omega)]; show jI (S 8 (z.toNat : Int)) = _; rw [Int.toNat_of_nonneg h1]
theorem M_put8 {z v : Int} (h1 : 0 ≤ z) (h2 : z < 2147483648) : sI (MH h0 m S L) (jI z).toNatClampNeg (m + 8) (jI v) = MH h0 m (sr S 8 (up (S 8) z v)) L := MH_put (by omega) (by omega) h1 h2
theorem M_ref9 : gR (MH h0 m S L) 539 m = m + 9 := by rw [M_ref]; rfl
theorem M_kd9 : kd (MH h0 m S L) (m + 9) = 203 := by unfold kd; rw [MH_arr (by omega) (by omega)]; rfl
theorem M_ln9 : ln (MH h0 m S L) (m + 9) = 16080 := by unfold ln; rw [MH_arr (by omega) (by omega)]; rfl
theorem M_get9 {z : Int} (h1 : 0 ≤ z) (h2 : z < 2147483648) : gL (MH h0 m S L) (jI z).toNatClampNeg (m + 9) = L 9 z := by rw [jI_clamp h1 h2]; unfold gL; rw [MH_arr (by omega) (by omega)]; show L 9 (z.toNat : Int) = _; rw [Int.toNat_of_nonneg h1]
theorem M_put9 {z : Int} {v : Int64} (h1 : 0 ≤ z) (h2 : z < 2147483648) : sL (MH h0 m S L) (jI z).toNatClampNeg (m + 9) v = MH h0 m S (sr L 9 (upL (L 9) z v)) := MH_putL (by omega) (by omega) h1 h2
theorem M_ref10 : gR (MH h0 m S L) 540 m = m + 10 := by rw [M_ref]; rfl
theorem M_kd10 : kd (MH h0 m S L) (m + 10) = 200 := by unfold kd; rw [MH_arr (by omega) (by omega)]; rfl
theorem M_ln10 : ln (MH h0 m S L) (m + 10) = 4020 := by unfold ln; rw [MH_arr (by omega) (by omega)]; rfl
theorem M_get10 {z : Int} (h1 : 0 ≤ z) (h2 : z < 2147483648) : gI (MH h0 m S L) (jI z).toNatClampNeg (m + 10) = jI (S 10 z) := by rw [jI_clamp h1 h2]; unfold gI; rw [MH_arr (by omega) (by omega)]; show jI (S 10 (z.toNat : Int)) = _; rw [Int.toNat_of_nonneg h1]
theorem M_put10 {z v : Int} (h1 : 0 ≤ z) (h2 : z < 2147483648) : sI (MH h0 m S L) (jI z).toNatClampNeg (m + 10) (jI v) = MH h0 m (sr S 10 (up (S 10) z v)) L := MH_put (by omega) (by omega) h1 h2
theorem M_ref11 : gR (MH h0 m S L) 541 m = m + 11 := by rw [M_ref]; rfl
theorem M_kd11 : kd (MH h0 m S L) (m + 11) = 200 := by unfold kd; rw [MH_arr (by omega) (by omega)]; rfl
theorem M_ln11 : ln (MH h0 m S L) (m + 11) = 16384 := by unfold ln; rw [MH_arr (by omega) (by omega)]; rfl
theorem M_get11 {z : Int} (h1 : 0 ≤ z) (h2 : z < 2147483648) : gI (MH h0 m S L) (jI z).toNatClampNeg (m + 11) = jI (S 11 z) := by rw [jI_clamp h1 h2]; unfold gI; rw [MH_arr (by omega) (by omega)]; show jI (S 11 (z.toNat : Int)) = _; rw [Int.toNat_of_nonneg h1]
theorem M_put11 {z v : Int} (h1 : 0 ≤ z) (h2 : z < 2147483648) : sI (MH h0 m S L) (jI z).toNatClampNeg (m + 11) (jI v) = MH h0 m (sr S 11 (up (S 11) z v)) L := MH_put (by omega) (by omega) h1 h2
theorem M_ref12 : gR (MH h0 m S L) 543 m = m + 12 := by rw [M_ref]; rfl
theorem M_kd12 : kd (MH h0 m S L) (m + 12) = 203 := by unfold kd; rw [MH_arr (by omega) (by omega)]; rfl
theorem M_ln12 : ln (MH h0 m S L) (m + 12) = 4 := by unfold ln; rw [MH_arr (by omega) (by omega)]; rfl
theorem M_get12 {z : Int} (h1 : 0 ≤ z) (h2 : z < 2147483648) : gL (MH h0 m S L) (jI z).toNatClampNeg (m + 12) = L 12 z := by rw [jI_clamp h1 h2]; unfold gL; rw [MH_arr (by omega) (by omega)]; show L 12 (z.toNat : Int) = _; rw [Int.toNat_of_nonneg h1]
theorem M_put12 {z : Int} {v : Int64} (h1 : 0 ≤ z) (h2 : z < 2147483648) : sL (MH h0 m S L) (jI z).toNatClampNeg (m + 12) v = MH h0 m S (sr L 12 (upL (L 12) z v)) := MH_putL (by omega) (by omega) h1 h2
theorem M_ref13 : gR (MH h0 m S L) 544 m = m + 13 := by rw [M_ref]; rfl
theorem M_kd13 : kd (MH h0 m S L) (m + 13) = 200 := by unfold kd; rw [MH_arr (by omega) (by omega)]; rfl
theorem M_ln13 : ln (MH h0 m S L) (m + 13) = 4 := by unfold ln; rw [MH_arr (by omega) (by omega)]; rfl
theorem M_get13 {z : Int} (h1 : 0 ≤ z) (h2 : z < 2147483648) : gI (MH h0 m S L) (jI z).toNatClampNeg (m + 13) = jI (S 13 z) := by rw [jI_clamp h1 h2]; unfold gI; rw [MH_arr (by omega) (by omega)]; show jI (S 13 (z.toNat : Int)) = _; rw [Int.toNat_of_nonneg h1]
theorem M_put13 {z v : Int} (h1 : 0 ≤ z) (h2 : z < 2147483648) : sI (MH h0 m S L) (jI z).toNatClampNeg (m + 13) (jI v) = MH h0 m (sr S 13 (up (S 13) z v)) L := MH_put (by omega) (by omega) h1 h2
theorem M_ref14 : gR (MH h0 m S L) 549 m = m + 14 := by rw [M_ref]; rfl
theorem M_kd14 : kd (MH h0 m S L) (m + 14) = 201 := by unfold kd; rw [MH_arr (by omega) (by omega)]; rfl
theorem M_ln14 : ln (MH h0 m S L) (m + 14) = 20 := by unfold ln; rw [MH_arr (by omega) (by omega)]; rfl
theorem M_get14 {z : Int} (h1 : 0 ≤ z) (h2 : z < 2147483648) : gI (MH h0 m S L) (jI z).toNatClampNeg (m + 14) = jI (S 14 z) := by rw [jI_clamp h1 h2]; unfold gI; rw [MH_arr (by omega) (by omega)]; show jI (S 14 (z.toNat : Int)) = _; rw [Int.toNat_of_nonneg h1]
theorem M_put14 {z v : Int} (h1 : 0 ≤ z) (h2 : z < 2147483648) : sI (MH h0 m S L) (jI z).toNatClampNeg (m + 14) (jI v) = MH h0 m (sr S 14 (up (S 14) z v)) L := MH_put (by omega) (by omega) h1 h2
theorem M_p526 {v : Int} : sI (MH h0 m S L) 526 m (jI v) = MH h0 m (sr S 0 (up (S 0) 526 v)) L := MH_put0
theorem M_g526 : gI (MH h0 m S L) 526 m = jI (S 0 526) := M_get0
theorem M_p527 {v : Int} : sI (MH h0 m S L) 527 m (jI v) = MH h0 m (sr S 0 (up (S 0) 527 v)) L := MH_put0
theorem M_g527 : gI (MH h0 m S L) 527 m = jI (S 0 527) := M_get0
theorem M_p529 {v : Int} : sI (MH h0 m S L) 529 m (jI v) = MH h0 m (sr S 0 (up (S 0) 529 v)) L := MH_put0
theorem M_g529 : gI (MH h0 m S L) 529 m = jI (S 0 529) := M_get0
theorem M_p530 {v : Int} : sI (MH h0 m S L) 530 m (jI v) = MH h0 m (sr S 0 (up (S 0) 530 v)) L := MH_put0
theorem M_g530 : gI (MH h0 m S L) 530 m = jI (S 0 530) := M_get0
theorem M_p531 {v : Int} : sI (MH h0 m S L) 531 m (jI v) = MH h0 m (sr S 0 (up (S 0) 531 v)) L := MH_put0
theorem M_g531 : gI (MH h0 m S L) 531 m = jI (S 0 531) := M_get0
theorem M_p532 {v : Int} : sI (MH h0 m S L) 532 m (jI v) = MH h0 m (sr S 0 (up (S 0) 532 v)) L := MH_put0
theorem M_g532 : gI (MH h0 m S L) 532 m = jI (S 0 532) := M_get0
theorem M_p533 {v : Int} : sI (MH h0 m S L) 533 m (jI v) = MH h0 m (sr S 0 (up (S 0) 533 v)) L := MH_put0
theorem M_g533 : gI (MH h0 m S L) 533 m = jI (S 0 533) := M_get0
theorem M_p534 {v : Int} : sI (MH h0 m S L) 534 m (jI v) = MH h0 m (sr S 0 (up (S 0) 534 v)) L := MH_put0
theorem M_g534 : gI (MH h0 m S L) 534 m = jI (S 0 534) := M_get0
theorem M_p535 {v : Int} : sI (MH h0 m S L) 535 m (jI v) = MH h0 m (sr S 0 (up (S 0) 535 v)) L := MH_put0
theorem M_g535 : gI (MH h0 m S L) 535 m = jI (S 0 535) := M_get0
theorem M_p536 {v : Int} : sI (MH h0 m S L) 536 m (jI v) = MH h0 m (sr S 0 (up (S 0) 536 v)) L := MH_put0
theorem M_g536 : gI (MH h0 m S L) 536 m = jI (S 0 536) := M_get0
theorem M_p537 {v : Int} : sI (MH h0 m S L) 537 m (jI v) = MH h0 m (sr S 0 (up (S 0) 537 v)) L := MH_put0
theorem M_g537 : gI (MH h0 m S L) 537 m = jI (S 0 537) := M_get0
theorem M_p542 {v : Int} : sI (MH h0 m S L) 542 m (jI v) = MH h0 m (sr S 0 (up (S 0) 542 v)) L := MH_put0
theorem M_g542 : gI (MH h0 m S L) 542 m = jI (S 0 542) := M_get0
theorem M_p545 {v : Int} : sI (MH h0 m S L) 545 m (jI v) = MH h0 m (sr S 0 (up (S 0) 545 v)) L := MH_put0
theorem M_g545 : gI (MH h0 m S L) 545 m = jI (S 0 545) := M_get0
theorem M_p546 {v : Int} : sI (MH h0 m S L) 546 m (jI v) = MH h0 m (sr S 0 (up (S 0) 546 v)) L := MH_put0
theorem M_g546 : gI (MH h0 m S L) 546 m = jI (S 0 546) := M_get0
theorem M_p547 {v : Int} : sI (MH h0 m S L) 547 m (jI v) = MH h0 m (sr S 0 (up (S 0) 547 v)) L := MH_put0
theorem M_g547 : gI (MH h0 m S L) 547 m = jI (S 0 547) := M_get0
theorem M_p548 {v : Int} : sI (MH h0 m S L) 548 m (jI v) = MH h0 m (sr S 0 (up (S 0) 548 v)) L := MH_put0
theorem M_g548 : gI (MH h0 m S L) 548 m = jI (S 0 548) := M_get0
theorem M_p550 {v : Int} : sI (MH h0 m S L) 550 m (jI v) = MH h0 m (sr S 0 (up (S 0) 550 v)) L := MH_put0
theorem M_g550 : gI (MH h0 m S L) 550 m = jI (S 0 550) := M_get0
end MHA
