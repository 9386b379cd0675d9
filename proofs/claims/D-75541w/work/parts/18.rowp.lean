set_option maxRecDepth 100000
/-! ===== descriptions: the text b of n bytes ===== -/
def chT (b : Row) (n i : Int) : Int := if i < n then b i % 256 else -1
noncomputable def scanT (b : Row) (n : Int) (P : Int → Prop) (i : Int) : Int := i + fk (n - i + 1).toNat (fun k => ¬ P (chT b n (i + k)))
def isSp (c : Int) : Prop := c = 32
def isLo (c : Int) : Prop := 97 ≤ c ∧ c ≤ 122
def isDg (c : Int) : Prop := 48 ≤ c ∧ c ≤ 57
theorem scan_spec {b : Row} {n i : Int} {P : Int → Prop} (hi : 0 ≤ i ∧ i ≤ n) (hP : ¬ P (-1)) : i ≤ scanT b n P i ∧ scanT b n P i ≤ n ∧ ¬ P (chT b n (scanT b n P i)) ∧ ∀ k, i ≤ k → k < scanT b n P i → P (chT b n k) := by
  unfold scanT
  rcases fk_spec (n := (n - i + 1).toNat) (P := fun k => ¬ P (chT b n (i + k))) with ⟨_, h⟩ | ⟨h1, h2, h3, h4⟩
  · have := h (n - i) (by omega) (by omega)
    have e : chT b n (i + (n - i)) = -1 := by unfold chT; rw [if_neg (by omega)]
    rw [e] at this
    exact absurd hP this
  · refine ⟨by omega, by omega, h3, fun k a c => ?_⟩
    have := h4 (k - i) (by omega) (by omega)
    rw [show i + (k - i) = k by omega] at this
    exact Classical.not_not.mp this
theorem scan_eq {b : Row} {n i e : Int} {P : Int → Prop} (hi : 0 ≤ i ∧ i ≤ n) (hP : ¬ P (-1)) (h1 : i ≤ e) (h2 : e ≤ n) (h3 : ¬ P (chT b n e)) (h4 : ∀ k, i ≤ k → k < e → P (chT b n k)) : scanT b n P i = e := by
  obtain ⟨g1, g2, g3, g4⟩ := scan_spec (b := b) (n := n) (i := i) (P := P) hi hP
  by_cases q : scanT b n P i = e
  · exact q
  · by_cases q2 : scanT b n P i < e
    · exact absurd (h4 _ g1 q2) g3
    · exact absurd (g4 e h1 (by omega)) h3
/-- digits' value -/
def dvN (b : Row) (n i : Int) : Nat → Int
  | 0 => 0
  | k + 1 => min 10000000 (10 * dvN b n i k + chT b n (i + k) - 48)
theorem dvN_bd {b : Row} {n i : Int} {k : Nat} (h : ∀ j : Int, i ≤ j → j < i + k → isDg (chT b n j)) : 0 ≤ dvN b n i k ∧ dvN b n i k ≤ 10000000 := by
  induction k with
  | zero => exact ⟨Int.le_refl _, by show (0 : Int) ≤ _; omega⟩
  | succ k ih =>
    have h1 := ih (fun j a c => h j a (by omega))
    have h2 := h (i + k) (by omega) (by omega)
    unfold isDg at h2
    unfold dvN
    omega
/-- a number: (0, its value, behind it) or (kind of error, where, behind it) -/
noncomputable def numR (b : Row) (n at' lo hi : Int) : Int × Int × Int :=
  let s := scanT b n isSp at'
  ifP (isDg (chT b n s))
    (let e := scanT b n isDg s
     let v := dvN b n s (e - s).toNat
     if lo ≤ v ∧ v ≤ hi then (0, v, e) else (2, s, e))
    (1, s, s)
/-- an outcome: (0, place, seed, row), or (kind of error, where, _, _) -/
abbrev PO : Type := Int × Int × Int × Row
def thn (N : Int × Int × Int) (f : Int → Int → PO) : PO := if N.1 = 0 then f N.2.1 N.2.2 else (N.1, N.2.1, 0, fun _ => 0)
def bad (k x : Int) : PO := (k, x, 0, fun _ => 0)
noncomputable def gameR (b : Row) (n at' sd : Int) (rd : Row) : PO :=
  thn (numR b n at' 1 4) fun x1 a1 => thn (numR b n a1 1 5) fun x2 a2 => thn (numR b n a2 2 4) fun x3 a3 => thn (numR b n a3 1 5) fun x4 a4 =>
    (0, a4, sd, up (up (up (up rd 0 x1) 1 x2) 2 x3) 3 x4)
noncomputable def cardR (b : Row) (n at' sd : Int) (rd : Row) : PO :=
  let s := scanT b n isSp at'
  let e := scanT b n isLo s
  ifP (e - s = 1 ∧ isDg (chT b n e))
    (let f := scanT b n isDg e
     let rank := dvN b n e (f - e).toNat
     if rd 0 ≤ b s - 97 ∨ ¬ (1 ≤ rank ∧ rank ≤ rd 1) then bad 2 s
     else if rd 4 = 40 then bad 3 s
     else (0, f, sd, up (up rd (27 + rd 4) (5 * (b s - 97) + rank - 1)) 4 (rd 4 + 1)))
    (bad 1 s)
/-- cards, at most t of them -/
noncomputable def deckR (b : Row) (n sd : Int) : Nat → Int → Row → PO
  | 0, at', rd => (0, at', sd, rd)
  | t + 1, at', rd =>
    let O := cardR b n at' sd rd
    if O.1 ≠ 0 then O
    else ifP (isLo (chT b n (scanT b n isSp O.2.1))) (deckR b n sd t (scanT b n isSp O.2.1) O.2.2.2) (0, scanT b n isSp O.2.1, sd, O.2.2.2)
noncomputable def wordR (b : Row) (n at' sd : Int) (rd : Row) (w : Int) : PO :=
  thn (numR b n at' (if w = 0 then 0 else 1) (if w = 0 then rd 0 - 1 else rd 1)) fun v a => thn (numR b n a 0 99) fun x a2 => (0, a2, sd, up rd (wordAtR w v) x)
def wGame : List Int := [103, 97, 109, 101]
def wDeck : List Int := [100, 101, 99, 107]
def wTokens : List Int := [116, 111, 107, 101, 110, 115]
def wLives : List Int := [108, 105, 118, 101, 115]
def wColor : List Int := [99, 111, 108, 111, 114]
def wRank : List Int := [114, 97, 110, 107]
def wShuffle : List Int := [115, 104, 117, 102, 102, 108, 101]
def wordIs (b : Row) (s e : Int) (cs : List Int) : Prop := e - s = cs.length ∧ ∀ i : Nat, i < cs.length → b (s + i) = cs.getD i 0
noncomputable def statR (b : Row) (n at' stm sd : Int) (rd : Row) : PO :=
  let s := scanT b n isSp at'
  let e := scanT b n isLo s
  ifP (wordIs b s e wGame) (if stm = 0 then gameR b n e sd rd else bad 1 s)
  (if stm = 0 then bad 1 s else
   ifP (wordIs b s e wDeck) (deckR b n sd 41 e rd)
   (ifP (wordIs b s e wTokens) (thn (numR b n e 1 9) fun x a => thn (numR b n a 0 x) fun y a2 => (0, a2, sd, up (up rd 6 x) 7 y))
   (ifP (wordIs b s e wLives) (thn (numR b n e 1 5) fun x a => (0, a, sd, up rd 8 x))
   (ifP (wordIs b s e wColor) (wordR b n e sd rd 0)
   (ifP (wordIs b s e wRank) (wordR b n e sd rd 1)
   (ifP (wordIs b s e wShuffle) (thn (numR b n e 0 999999) fun x a => (0, a, x, rd)) (bad 1 s)))))))
/-- all statements from number stm on: (the number of the last one, outcome) -/
noncomputable def progR (b : Row) (n : Int) : Nat → Int → Int → Int → Row → Int × PO
  | 0, at', stm, sd, rd => (stm, (0, at', sd, rd))
  | t + 1, at', stm, sd, rd =>
    let O := statR b n at' stm sd rd
    if O.1 ≠ 0 then (stm, O)
    else
      let s := scanT b n isSp O.2.1
      if chT b n s = -1 then (stm, if O.2.2.2 4 < O.2.2.2 2 * O.2.2.2 3 then bad 4 s else (0, s, O.2.2.1, O.2.2.2))
      else if chT b n s = 59 then progR b n t (s + 1) (stm + 1) O.2.2.1 O.2.2.2 else (stm, bad 1 s)
/-- the row that a description begins with -/
def rd0 : Row := up (up (up (fun k => if 18 ≤ k ∧ k < 27 then 99 else 0) 6 8) 7 8) 8 3
noncomputable def parseR (b : Row) (n : Int) : Int × PO := progR b n 601 0 0 (-1) rd0
/-! the shuffle, the beginning -/
def lcgS (s : Int) : Int := (s * 1103515245 + 12345) % 2147483648
/-- from place k down, with the number s -/
def shufN : Nat → Int → Row → Row
  | 0, _, r => r
  | k + 1, s, r =>
    let o := lcgS s / 65536 % (k + 2)
    shufN k (lcgS s) (up (up r (27 + (k + 1)) (r (27 + o))) (27 + o) (r (27 + (k + 1))))
def shufR (sd : Int) (r : Row) : Row := if sd = -1 then r else shufN (r 4 - 1).toNat sd r
/-- n cards for player p -/
def dealN (p : Int) : Nat → Row → Row
  | 0, r => r
  | n + 1, r => drawsR (dealN p n r) p
def dealsN (hand : Nat) : Nat → Row → Row
  | 0, r => r
  | p + 1, r => dealN p hand (dealsN hand p r)
def fullS (r : Row) : Row := fun k => if 67 ≤ k ∧ k < 107 then 2 ^ (r 0).toNat - 1 else if 107 ≤ k ∧ k < 147 then 2 ^ (r 1).toNat - 1 else r k
def beginR (sd : Int) (rd : Row) : Row :=
  let r0 := shufR sd rd
  let r1 := dealsN (r0 3).toNat (r0 2).toNat (fullS (up r0 9 (-1)))
  if r1 5 = r1 4 then up r1 9 (r1 2) else r1
/-! the twin's way through a description: its int fields z -/
noncomputable def nxF (b : Row) (z : Row) : Row := up (up z 530 (scanT b (z 529) isSp (z 530))) 531 (scanT b (z 529) isSp (z 530))
def flF (k : Int) (z : Row) : Row := if z 532 = 0 then up (up z 532 k) 533 (z 531) else z
noncomputable def rdF (b : Row) (z : Row) : Row := up (nxF b z) 530 (scanT b (z 529) isLo (nxF b z 530))
noncomputable def numF (b : Row) (lo hi : Int) (z : Row) : Row × Int :=
  if z 532 = 0 then
    ifP (isDg (chT b (z 529) (nxF b z 530)))
      (let e := scanT b (z 529) isDg (nxF b z 530)
       let v := dvN b (z 529) (nxF b z 530) (e - nxF b z 530).toNat
       if lo ≤ v ∧ v ≤ hi then (up (nxF b z) 530 e, v) else (flF 2 (up (nxF b z) 530 e), lo))
      (flF 1 (nxF b z), lo)
  else (z, lo)
/-- the fields are in order -/
def PB (z : Row) : Prop := (0 ≤ z 529 ∧ z 529 ≤ 600) ∧ (0 ≤ z 531 ∧ z 531 ≤ z 530) ∧ z 530 ≤ z 529 ∧ (0 ≤ z 532 ∧ z 532 ≤ 4)
def PBw (z : Row) : Prop := (0 ≤ z 529 ∧ z 529 ≤ 600) ∧ 0 ≤ z 530 ∧ z 530 ≤ z 529 ∧ (0 ≤ z 532 ∧ z 532 ≤ 4)
theorem PB.w {z : Row} (h : PB z) : PBw z := ⟨h.1, by have := h.2.1; omega, h.2.2.1, h.2.2.2⟩
theorem nSp : ¬ isSp (-1) := by unfold isSp; omega
theorem nLo : ¬ isLo (-1) := by unfold isLo; omega
theorem nDg : ¬ isDg (-1) := by unfold isDg; omega
noncomputable def gmF (b : Row) (z rd : Row) : Row × Row :=
  let N1 := numF b 1 4 (if 0 < z 534 then flF 1 z else z)
  let N2 := numF b 1 5 N1.1
  let N3 := numF b 2 4 N2.1
  let N4 := numF b 1 5 N3.1
  (N4.1, up (up (up (up rd 0 N1.2) 1 N2.2) 2 N3.2) 3 N4.2)
def cdG (letter rank : Int) (z rd : Row) : Row × Row :=
  let z3 := if rd 0 ≤ letter ∨ ¬ (1 ≤ rank ∧ rank ≤ rd 1) then flF 2 z else if rd 4 = 40 then flF 3 z else z
  if z3 532 = 0 then (z3, up (up rd (27 + rd 4) (5 * letter + rank - 1)) 4 (rd 4 + 1)) else (z3, rd)
noncomputable def cdF (b : Row) (z rd : Row) : Row × Row :=
  let z1 := rdF b z
  ifP (z1 530 - z1 531 = 1 ∧ isDg (chT b (z 529) (z1 530)))
    (let e := scanT b (z 529) isDg (z1 530)
     cdG (b (z1 531) - 97) (dvN b (z 529) (z1 530) (e - z1 530).toNat) (up z1 530 e) rd)
    (flF 1 z1, rd)
noncomputable def dkF (b : Row) : Nat → Row → Row → Row × Row
  | 0, z, rd => (z, rd)
  | t + 1, z, rd =>
    let Q := cdF b z rd
    if Q.1 532 = 0 then ifP (isLo (chT b (z 529) (nxF b Q.1 530))) (dkF b t (nxF b Q.1) Q.2) (nxF b Q.1, Q.2) else Q
noncomputable def wpF (b : Row) (w : Int) (z rd : Row) : Row × Row :=
  let N1 := numF b (if w = 0 then 0 else 1) (if w = 0 then rd 0 - 1 else rd 1) z
  let N2 := numF b 0 99 N1.1
  (N2.1, up rd (wordAtR w N1.2) N2.2)
noncomputable def stF (b : Row) (z rd : Row) : Row × Row :=
  let z1 := rdF b z
  let I := wordIs b (z1 531) (z1 530)
  ifP (I wGame) (gmF b z1 rd)
  (if z1 534 = 0 then (flF 1 z1, rd) else
   ifP (I wDeck) (dkF b 41 z1 rd)
   (ifP (I wTokens) ((numF b 0 (numF b 1 9 z1).2 (numF b 1 9 z1).1).1, up (up rd 6 (numF b 1 9 z1).2) 7 (numF b 0 (numF b 1 9 z1).2 (numF b 1 9 z1).1).2)
   (ifP (I wLives) ((numF b 1 5 z1).1, up rd 8 (numF b 1 5 z1).2)
   (ifP (I wColor) (wpF b 0 z1 rd)
   (ifP (I wRank) (wpF b 1 z1 rd)
   (ifP (I wShuffle) (up (numF b 0 999999 z1).1 535 (numF b 0 999999 z1).2, rd) (flF 1 z1, rd)))))))
/-- is there one more statement -/
noncomputable def mrF (b : Row) (z : Row) : Row × Int :=
  if z 532 = 0 then
    if chT b (z 529) (nxF b z 530) < 0 then (nxF b z, 0)
    else if chT b (z 529) (nxF b z 530) = 59 then (up (up (nxF b z) 530 (nxF b z 530 + 1)) 534 (z 534 + 1), 1)
    else (flF 1 (nxF b z), 0)
  else (z, 0)
noncomputable def ldF (b : Row) : Nat → Row → Row → Row × Row
  | 0, z, rd => (z, rd)
  | t + 1, z, rd =>
    let Q := stF b z rd
    let M := mrF b Q.1
    if M.2 = 1 then ldF b t M.1 Q.2 else (M.1, Q.2)
/-! bounds -/
def BB (b : Row) : Prop := ∀ j, 0 ≤ j → j < 600 → -128 ≤ b j ∧ b j < 128
theorem ch_bd {b : Row} {n i : Int} : -1 ≤ chT b n i ∧ chT b n i < 256 := by unfold chT; split <;> omega
/-- what a step of the twin's keeps -/
def PBk (z Z : Row) : Prop := PB Z ∧ z 530 ≤ Z 530 ∧ ∀ j, ¬ (530 ≤ j ∧ j ≤ 533) → Z j = z j
theorem PBk.trans {z Y Z : Row} (h : PBk z Y) (g : PBk Y Z) : PBk z Z := ⟨g.1, by have := h.2.1; have := g.2.1; omega, fun j hj => (g.2.2 j hj).trans (h.2.2 j hj)⟩
theorem PBk.rfl {z : Row} (h : PB z) : PBk z z := ⟨h, Int.le_refl _, fun _ _ => Eq.refl _⟩
theorem nx_ok {b z : Row} (h : PBw z) : PBk z (nxF b z) ∧ nxF b z 530 = scanT b (z 529) isSp (z 530) ∧ nxF b z 531 = nxF b z 530 ∧ nxF b z 532 = z 532 ∧ ¬ isSp (chT b (z 529) (nxF b z 530)) := by
  obtain ⟨h1, h2, h3, h4⟩ := id h
  obtain ⟨g1, g2, g3, g4⟩ := scan_spec (b := b) (n := z 529) (i := z 530) (P := isSp) (by omega) nSp
  have e0 : nxF b z 530 = scanT b (z 529) isSp (z 530) := by unfold nxF; rw [up_ne (by omega), up_eq]
  have e1 : nxF b z 531 = scanT b (z 529) isSp (z 530) := by unfold nxF; rw [up_eq]
  have ej : ∀ j, j ≠ 530 → j ≠ 531 → nxF b z j = z j := fun j a c => by unfold nxF; rw [up_ne c, up_ne a]
  have e9 := ej 529 (by omega) (by omega)
  have e2 := ej 532 (by omega) (by omega)
  refine ⟨⟨⟨by omega, by omega, by omega, by omega⟩, by omega, fun j hj => ej j (by omega) (by omega)⟩, e0, by omega, e2, by rw [e0]; exact g3⟩
theorem fl_ok {z : Row} (h : PB z) {k : Int} (hk : 1 ≤ k ∧ k ≤ 4) : PBk z (flF k z) ∧ flF k z 532 = (if z 532 = 0 then k else z 532) ∧ (z 532 = 0 → flF k z 533 = z 531) ∧ (z 532 ≠ 0 → flF k z = z) := by
  obtain ⟨h1, h2, h3, h4⟩ := id h
  unfold flF
  by_cases q : z 532 = 0
  · rw [if_pos q, if_pos q]
    have e : ∀ j, j ≠ 532 → j ≠ 533 → up (up z 532 k) 533 (z 531) j = z j := fun j a c => by rw [up_ne c, up_ne a]
    have e9 := e 529 (by omega) (by omega)
    have e0 := e 530 (by omega) (by omega)
    have e1 := e 531 (by omega) (by omega)
    have e2 : up (up z 532 k) 533 (z 531) 532 = k := by rw [up_ne (by omega), up_eq]
    exact ⟨⟨⟨by omega, by omega, by omega, by omega⟩, by omega, fun j hj => e j (by omega) (by omega)⟩, e2, fun _ => up_eq, fun q2 => absurd q q2⟩
  · rw [if_neg q, if_neg q]; exact ⟨PBk.rfl h, Eq.refl _, fun q2 => absurd q2 q, fun _ => Eq.refl _⟩
theorem rd_ok {b z : Row} (h : PBw z) : PBk z (rdF b z) ∧ rdF b z 531 = scanT b (z 529) isSp (z 530) ∧ rdF b z 530 = scanT b (z 529) isLo (rdF b z 531) ∧ rdF b z 532 = z 532 ∧ rdF b z 531 ≤ rdF b z 530 := by
  obtain ⟨g1, g2, g3, g4, g5⟩ := nx_ok (b := b) h
  obtain ⟨p1, p2, p3, p4⟩ := id g1.1
  have e9 := g1.2.2 529 (by omega)
  obtain ⟨f1, f2, f3, f4⟩ := scan_spec (b := b) (n := z 529) (i := nxF b z 530) (P := isLo) (by omega) nLo
  have hle := g1.2.1
  have e0 : rdF b z 530 = scanT b (z 529) isLo (nxF b z 530) := by unfold rdF; rw [up_eq]
  have ej : ∀ j, j ≠ 530 → rdF b z j = nxF b z j := fun j a => by unfold rdF; rw [up_ne a]
  have e1 := ej 531 (by omega)
  have e2 := ej 532 (by omega)
  have e29 := ej 529 (by omega)
  exact ⟨⟨⟨by omega, by omega, by omega, by omega⟩, by omega, fun j hj => (ej j (by omega)).trans (g1.2.2 j hj)⟩, by omega, by rw [e0, e1, g3], by omega, by omega⟩
theorem dg_val {b : Row} {n i : Int} (hi : 0 ≤ i ∧ i ≤ n) : 0 ≤ dvN b n i (scanT b n isDg i - i).toNat ∧ dvN b n i (scanT b n isDg i - i).toNat ≤ 10000000 := by
  obtain ⟨f1, f2, f3, f4⟩ := scan_spec (b := b) (n := n) (i := i) (P := isDg) hi nDg
  exact dvN_bd (fun j a c => f4 j a (by omega))
theorem num_ok {b z : Row} (h : PB z) {lo hi : Int} : PBk z (numF b lo hi z).1 ∧ ((numF b lo hi z).2 = lo ∨ (lo ≤ (numF b lo hi z).2 ∧ (numF b lo hi z).2 ≤ hi)) ∧ (z 532 ≠ 0 → numF b lo hi z = (z, lo)) ∧
    (z 532 = 0 → (numF b lo hi z).1 532 = (numR b (z 529) (z 530) lo hi).1 ∧ ((numR b (z 529) (z 530) lo hi).1 ≠ 0 → (numF b lo hi z).1 533 = (numR b (z 529) (z 530) lo hi).2.1) ∧ ((numR b (z 529) (z 530) lo hi).1 = 0 → (numF b lo hi z).1 530 = (numR b (z 529) (z 530) lo hi).2.2 ∧ (numF b lo hi z).2 = (numR b (z 529) (z 530) lo hi).2.1)) := by
  obtain ⟨g1, g2, g3, g4, g5⟩ := nx_ok (b := b) h.w
  obtain ⟨p1, p2, p3, p4⟩ := id g1.1
  have e9 := g1.2.2 529 (by omega)
  by_cases q : z 532 = 0
  · unfold numF numR
    dsimp only
    rw [if_pos q, ← g2]
    obtain ⟨f1, f2, f3, f4⟩ := scan_spec (b := b) (n := z 529) (i := nxF b z 530) (P := isDg) (by omega) nDg
    generalize nxF b z = y at *
    generalize he : scanT b (z 529) isDg (y 530) = e at *
    by_cases d : isDg (chT b (z 529) (y 530))
    · rw [ifP_t d, ifP_t d]
      generalize dvN b (z 529) (y 530) (e - y 530).toNat = v at *
      have ky : PB (up y 530 e) := by
        have a1 := up_ne (r := y) (i := 530) (v := e) (show (529 : Int) ≠ 530 by omega)
        have a2 := up_ne (r := y) (i := 530) (v := e) (show (531 : Int) ≠ 530 by omega)
        have a3 := up_ne (r := y) (i := 530) (v := e) (show (532 : Int) ≠ 530 by omega)
        have a4 := up_eq (r := y) (i := 530) (v := e)
        exact ⟨by omega, by omega, by omega, by omega⟩
      have k2 : PBk z (up y 530 e) := g1.trans ⟨ky, by rw [up_eq]; omega, fun j hj => up_ne (by omega)⟩
      have k3 : up y 530 e 532 = 0 := by rw [up_ne (by omega)]; omega
      by_cases r : lo ≤ v ∧ v ≤ hi
      · rw [if_pos r, if_pos r]
        exact ⟨k2, Or.inr r, fun q2 => absurd q q2, fun _ => ⟨k3, fun q2 => absurd (Eq.refl _) q2, fun _ => ⟨show up y 530 e 530 = e from up_eq, Eq.refl _⟩⟩⟩
      · rw [if_neg r, if_neg r]
        obtain ⟨a1, a2, a3, a4⟩ := fl_ok ky (k := 2) (by omega)
        rw [if_pos k3] at a2
        refine ⟨k2.trans a1, Or.inl (Eq.refl _), fun q2 => absurd q q2, fun _ => ⟨a2, fun _ => ?_, fun q2 => absurd q2 (by dsimp only; omega)⟩⟩
        dsimp only; rw [a3 k3, up_ne (by omega)]; exact g3
    · rw [ifP_f d, ifP_f d]
      have k3 : y 532 = 0 := by omega
      obtain ⟨a1, a2, a3, a4⟩ := fl_ok g1.1 (k := 1) (by omega)
      rw [if_pos k3] at a2
      exact ⟨g1.trans a1, Or.inl (Eq.refl _), fun q2 => absurd q q2, fun _ => ⟨a2, fun _ => (a3 k3).trans g3, fun q2 => absurd q2 (by dsimp only; omega)⟩⟩
  · have e : numF b lo hi z = (z, lo) := by unfold numF; rw [if_neg q]
    rw [e]
    exact ⟨PBk.rfl h, Or.inl (Eq.refl _), fun _ => Eq.refl _, fun q2 => absurd q2 q⟩
def RdB (rd : Row) : Prop := (0 ≤ rd 0 ∧ rd 0 ≤ 4) ∧ (0 ≤ rd 1 ∧ rd 1 ≤ 5) ∧ (0 ≤ rd 4 ∧ rd 4 ≤ 40) ∧ (0 ≤ rd 6 ∧ rd 6 ≤ 9) ∧ (0 ≤ rd 2 ∧ rd 2 ≤ 4) ∧ (0 ≤ rd 3 ∧ rd 3 ≤ 5)
theorem gm_ok {b z rd : Row} (h : PB z) (hr : RdB rd) : PBk z (gmF b z rd).1 ∧ RdB (gmF b z rd).2 := by
  unfold gmF
  dsimp only
  have h0 : PBk z (if 0 < z 534 then flF 1 z else z) := by
    split
    · exact (fl_ok h (by omega)).1
    · exact PBk.rfl h
  generalize (if 0 < z 534 then flF 1 z else z) = y at *
  obtain ⟨a1, a2, -⟩ := num_ok (b := b) h0.1 (lo := 1) (hi := 4)
  obtain ⟨b1, b2, -⟩ := num_ok (b := b) a1.1 (lo := 1) (hi := 5)
  obtain ⟨c1, c2, -⟩ := num_ok (b := b) b1.1 (lo := 2) (hi := 4)
  obtain ⟨d1, d2, -⟩ := num_ok (b := b) c1.1 (lo := 1) (hi := 5)
  refine ⟨h0.trans (a1.trans (b1.trans (c1.trans d1))), ?_⟩
  unfold RdB at *
  refine ⟨?_, ?_, ?_, ?_, ?_, ?_⟩
  · rw [up_ne (by omega), up_ne (by omega), up_ne (by omega), up_eq]; omega
  · rw [up_ne (by omega), up_ne (by omega), up_eq]; omega
  · rw [up_ne (by omega), up_ne (by omega), up_ne (by omega), up_ne (by omega)]; omega
  · rw [up_ne (by omega), up_ne (by omega), up_ne (by omega), up_ne (by omega)]; omega
  · rw [up_ne (by omega), up_eq]; omega
  · rw [up_eq]; omega
theorem cdG_ok {z rd : Row} {le rk : Int} (h : PB z) (hr : RdB rd) : PBk z (cdG le rk z rd).1 ∧ RdB (cdG le rk z rd).2 ∧ ((cdG le rk z rd).1 532 = 0 → (cdG le rk z rd).2 4 = rd 4 + 1 ∧ rd 4 < 40 ∨ z 532 ≠ 0) := by
  have h3 : PBk z (if rd 0 ≤ le ∨ ¬ (1 ≤ rk ∧ rk ≤ rd 1) then flF 2 z else if rd 4 = 40 then flF 3 z else z) ∧ ((if rd 0 ≤ le ∨ ¬ (1 ≤ rk ∧ rk ≤ rd 1) then flF 2 z else if rd 4 = 40 then flF 3 z else z) 532 = 0 → rd 4 ≠ 40) := by
    have f2 := fl_ok h (k := 2) (by omega)
    have f3 := fl_ok h (k := 3) (by omega)
    split
    · refine ⟨f2.1, fun q => ?_⟩
      rw [f2.2.1] at q
      split at q <;> omega
    · split
      · refine ⟨f3.1, fun q => ?_⟩
        rw [f3.2.1] at q
        split at q <;> omega
      · exact ⟨PBk.rfl h, fun _ => by assumption⟩
  unfold cdG
  dsimp only
  generalize (if rd 0 ≤ le ∨ ¬ (1 ≤ rk ∧ rk ≤ rd 1) then flF 2 z else if rd 4 = 40 then flF 3 z else z) = y at *
  unfold RdB at *
  by_cases q : y 532 = 0
  · rw [if_pos q]
    have h4 := h3.2 q
    have e : ∀ j, j ≠ 4 → j < 27 → up (up rd (27 + rd 4) (5 * le + rk - 1)) 4 (rd 4 + 1) j = rd j := fun j a c => by rw [up_ne a, up_ne (by omega)]
    have e4 : up (up rd (27 + rd 4) (5 * le + rk - 1)) 4 (rd 4 + 1) 4 = rd 4 + 1 := up_eq
    have e0 := e 0 (by omega) (by omega)
    have e1 := e 1 (by omega) (by omega)
    have e2 := e 2 (by omega) (by omega)
    have e3 := e 3 (by omega) (by omega)
    have e6 := e 6 (by omega) (by omega)
    exact ⟨h3.1, by dsimp only; omega, fun _ => Or.inl ⟨e4, by omega⟩⟩
  · rw [if_neg q]
    exact ⟨h3.1, hr, fun q2 => absurd q2 q⟩
theorem cd_ok {b z rd : Row} (h : PB z) (hr : RdB rd) : PBk z (cdF b z rd).1 ∧ RdB (cdF b z rd).2 ∧ (z 532 = 0 → (cdF b z rd).1 532 = 0 → (cdF b z rd).2 4 = rd 4 + 1 ∧ rd 4 < 40) := by
  obtain ⟨g1, g2, g3, g4, g5⟩ := rd_ok (b := b) h.w
  unfold cdF
  dsimp only
  generalize rdF b z = y at *
  by_cases q : y 530 - y 531 = 1 ∧ isDg (chT b (z 529) (y 530))
  · rw [ifP_t q]
    have e9 := g1.2.2 529 (by omega)
    have hy := g1.1
    unfold PB at hy
    obtain ⟨f1, f2, f3, f4⟩ := scan_spec (b := b) (n := z 529) (i := y 530) (P := isDg) (by omega) nDg
    have ky : PB (up y 530 (scanT b (z 529) isDg (y 530))) := by
      have a1 := up_ne (r := y) (i := 530) (v := scanT b (z 529) isDg (y 530)) (show (529 : Int) ≠ 530 by omega)
      have a2 := up_ne (r := y) (i := 530) (v := scanT b (z 529) isDg (y 530)) (show (531 : Int) ≠ 530 by omega)
      have a3 := up_ne (r := y) (i := 530) (v := scanT b (z 529) isDg (y 530)) (show (532 : Int) ≠ 530 by omega)
      have a4 := up_eq (r := y) (i := 530) (v := scanT b (z 529) isDg (y 530))
      exact ⟨by omega, by omega, by omega, by omega⟩
    have k2 : PBk z (up y 530 (scanT b (z 529) isDg (y 530))) := g1.trans ⟨ky, by rw [up_eq]; omega, fun j hj => up_ne (by omega)⟩
    obtain ⟨c1, c2, c3⟩ := cdG_ok (le := b (y 531) - 97) (rk := dvN b (z 529) (y 530) (scanT b (z 529) isDg (y 530) - y 530).toNat) ky hr
    refine ⟨k2.trans c1, c2, fun z0 q2 => ?_⟩
    rcases c3 q2 with c3 | c3
    · exact c3
    · rw [up_ne (by omega), g4] at c3; exact absurd z0 c3
  · rw [ifP_f q]
    have f2 := fl_ok g1.1 (k := 1) (by omega)
    refine ⟨g1.trans f2.1, hr, fun z0 q2 => ?_⟩
    dsimp only at q2
    rw [f2.2.1] at q2
    split at q2 <;> omega
theorem dk_ok {b : Row} {t : Nat} : ∀ {z rd : Row}, PB z → RdB rd → PBk z (dkF b t z rd).1 ∧ RdB (dkF b t z rd).2 := by
  induction t with
  | zero => intro z rd h hr; exact ⟨PBk.rfl h, hr⟩
  | succ t ih =>
    intro z rd h hr
    obtain ⟨g1, g2, g3⟩ := cd_ok (b := b) h hr
    unfold dkF
    dsimp only
    generalize cdF b z rd = Q at *
    by_cases q : Q.1 532 = 0
    · rw [if_pos q]
      obtain ⟨n1, n2, n3, n4, n5⟩ := nx_ok (b := b) g1.1.w
      by_cases q2 : isLo (chT b (z 529) (nxF b Q.1 530))
      · rw [ifP_t q2]
        obtain ⟨i1, i2⟩ := ih n1.1 g2
        exact ⟨g1.trans (n1.trans i1), i2⟩
      · rw [ifP_f q2]; exact ⟨g1.trans n1, g2⟩
    · rw [if_neg q]; exact ⟨g1, g2⟩
theorem wp_ok {b z rd : Row} {w : Int} (h : PB z) (hr : RdB rd) (hw : w = 0 ∨ w = 1) : PBk z (wpF b w z rd).1 ∧ RdB (wpF b w z rd).2 ∧ wordOK w (numF b (if w = 0 then 0 else 1) (if w = 0 then rd 0 - 1 else rd 1) z).2 := by
  unfold wpF
  dsimp only
  obtain ⟨a1, a2, -⟩ := num_ok (b := b) h (lo := if w = 0 then 0 else 1) (hi := if w = 0 then rd 0 - 1 else rd 1)
  obtain ⟨b1, b2, -⟩ := num_ok (b := b) a1.1 (lo := 0) (hi := 99)
  unfold RdB at *
  have hwo : wordOK w (numF b (if w = 0 then 0 else 1) (if w = 0 then rd 0 - 1 else rd 1) z).2 := by
    unfold wordOK
    rcases hw with rfl | rfl
    · rw [if_pos (Eq.refl _), if_pos (Eq.refl _)] at a2 ⊢; omega
    · rw [if_neg (by omega), if_neg (by omega)] at a2 ⊢; omega
  have hb := wordAt_bd hwo
  have e : ∀ j, j < 18 → up rd (wordAtR w (numF b (if w = 0 then 0 else 1) (if w = 0 then rd 0 - 1 else rd 1) z).2) (numF b 0 99 (numF b (if w = 0 then 0 else 1) (if w = 0 then rd 0 - 1 else rd 1) z).1).2 j = rd j := fun j a => up_ne (by omega)
  have e0 := e 0 (by omega)
  have e1 := e 1 (by omega)
  have e2 := e 2 (by omega)
  have e3 := e 3 (by omega)
  have e4 := e 4 (by omega)
  have e6 := e 6 (by omega)
  exact ⟨a1.trans b1, by omega, hwo⟩
theorem st_ok {b z rd : Row} (h : PBw z) (hr : RdB rd) : PB (stF b z rd).1 ∧ z 530 ≤ (stF b z rd).1 530 ∧ (∀ j, ¬ (530 ≤ j ∧ j ≤ 533) → j ≠ 535 → (stF b z rd).1 j = z j) ∧ RdB (stF b z rd).2 := by
  obtain ⟨g1, g2, g3, g4, g5⟩ := rd_ok (b := b) h
  have fin : ∀ Q : Row × Row, PBk (rdF b z) Q.1 → RdB Q.2 → PB Q.1 ∧ z 530 ≤ Q.1 530 ∧ (∀ j, ¬ (530 ≤ j ∧ j ≤ 533) → j ≠ 535 → Q.1 j = z j) ∧ RdB Q.2 := fun Q a c =>
    ⟨a.1, by have := a.2.1; have := g1.2.1; omega, fun j hj _ => (a.2.2 j hj).trans (g1.2.2 j hj), c⟩
  have hrd : ∀ j v, 5 ≤ j → j ≠ 6 → RdB (up rd j v) := fun j v a c => by
    unfold RdB at *
    have e : ∀ i, i ≠ j → up rd j v i = rd i := fun i q => up_ne q
    have e0 := e 0 (by omega)
    have e1 := e 1 (by omega)
    have e2 := e 2 (by omega)
    have e3 := e 3 (by omega)
    have e4 := e 4 (by omega)
    have e6 := e 6 (by omega)
    omega
  unfold stF
  dsimp only
  generalize rdF b z = y at *
  by_cases q1 : wordIs b (y 531) (y 530) wGame
  · rw [ifP_t q1]; have := gm_ok (b := b) g1.1 hr; exact fin _ this.1 this.2
  rw [ifP_f q1]
  by_cases q2 : y 534 = 0
  · rw [if_pos q2]; exact fin (_, _) (fl_ok g1.1 (by omega)).1 hr
  rw [if_neg q2]
  by_cases q3 : wordIs b (y 531) (y 530) wDeck
  · rw [ifP_t q3]; have := dk_ok (b := b) (t := 41) g1.1 hr; exact fin _ this.1 this.2
  rw [ifP_f q3]
  by_cases q4 : wordIs b (y 531) (y 530) wTokens
  · rw [ifP_t q4]
    obtain ⟨a1, a2, -⟩ := num_ok (b := b) g1.1 (lo := 1) (hi := 9)
    obtain ⟨b1, b2, -⟩ := num_ok (b := b) a1.1 (lo := 0) (hi := (numF b 1 9 y).2)
    refine fin (_, _) (a1.trans b1) ?_
    unfold RdB at *
    dsimp only
    generalize (numF b 0 (numF b 1 9 y).2 (numF b 1 9 y).1).2 = v2 at *
    generalize (numF b 1 9 y).2 = v1 at *
    have e : ∀ i, i ≠ 6 → i ≠ 7 → up (up rd 6 v1) 7 v2 i = rd i := fun i q q' => by rw [up_ne q', up_ne q]
    have e0 := e 0 (by omega) (by omega)
    have e1 := e 1 (by omega) (by omega)
    have e2 := e 2 (by omega) (by omega)
    have e3 := e 3 (by omega) (by omega)
    have e4 := e 4 (by omega) (by omega)
    have e6 : up (up rd 6 v1) 7 v2 6 = v1 := by rw [up_ne (by omega), up_eq]
    omega
  rw [ifP_f q4]
  by_cases q5 : wordIs b (y 531) (y 530) wLives
  · rw [ifP_t q5]; exact fin (_, _) (num_ok (b := b) g1.1 (lo := 1) (hi := 5)).1 (hrd _ _ (by omega) (by omega))
  rw [ifP_f q5]
  by_cases q6 : wordIs b (y 531) (y 530) wColor
  · rw [ifP_t q6]; have := wp_ok (b := b) g1.1 hr (w := 0) (Or.inl (Eq.refl _)); exact fin _ this.1 this.2.1
  rw [ifP_f q6]
  by_cases q7 : wordIs b (y 531) (y 530) wRank
  · rw [ifP_t q7]; have := wp_ok (b := b) g1.1 hr (w := 1) (Or.inr (Eq.refl _)); exact fin _ this.1 this.2.1
  rw [ifP_f q7]
  by_cases q8 : wordIs b (y 531) (y 530) wShuffle
  · rw [ifP_t q8]
    obtain ⟨a1, a2, -⟩ := num_ok (b := b) g1.1 (lo := 0) (hi := 999999)
    dsimp only
    generalize (numF b 0 999999 y).2 = v at *
    generalize (numF b 0 999999 y).1 = y2 at *
    have e : ∀ j, j ≠ 535 → up y2 535 v j = y2 j := fun j a => up_ne a
    obtain ⟨p1, p2, p3, p4⟩ := a1.1
    have e9 := e 529 (by omega)
    have e0 := e 530 (by omega)
    have e1 := e 531 (by omega)
    have e2 := e 532 (by omega)
    exact ⟨⟨by omega, by omega, by omega, by omega⟩, by have := a1.2.1; have := g1.2.1; omega, fun j hj hj2 => (e j hj2).trans ((a1.2.2 j hj).trans (g1.2.2 j hj)), hr⟩
  · rw [ifP_f q8]; exact fin (_, _) (fl_ok g1.1 (by omega)).1 hr
theorem mr_ok {b z : Row} (h : PB z) : PB (mrF b z).1 ∧ z 530 ≤ (mrF b z).1 530 ∧ ((mrF b z).2 = 0 ∨ (mrF b z).2 = 1) ∧ ((mrF b z).2 = 1 → z 530 < (mrF b z).1 530 ∧ z 532 = 0) ∧ ∀ j, ¬ (530 ≤ j ∧ j ≤ 534) → (mrF b z).1 j = z j := by
  obtain ⟨n1, n2, n3, n4, n5⟩ := nx_ok (b := b) h.w
  unfold mrF
  by_cases q : z 532 = 0
  · rw [if_pos q]
    generalize nxF b z = y at *
    obtain ⟨p1, p2, p3, p4⟩ := id n1.1
    have e9 := n1.2.2 529 (by omega)
    by_cases q2 : chT b (z 529) (y 530) < 0
    · rw [if_pos q2]; exact ⟨n1.1, n1.2.1, Or.inl (Eq.refl _), fun q => absurd q (by dsimp only; omega), fun j hj => n1.2.2 j (by omega)⟩
    · rw [if_neg q2]
      by_cases q3 : chT b (z 529) (y 530) = 59
      · rw [if_pos q3]
        have hlt : y 530 < z 529 := by
          unfold chT at q2
          by_cases g : y 530 < z 529
          · exact g
          · rw [if_neg g] at q2; omega
        dsimp only
        have e : ∀ j, j ≠ 530 → j ≠ 534 → up (up y 530 (y 530 + 1)) 534 (z 534 + 1) j = y j := fun j a c => by rw [up_ne c, up_ne a]
        have f9 := e 529 (by omega) (by omega)
        have f1 := e 531 (by omega) (by omega)
        have f2 := e 532 (by omega) (by omega)
        have f0 : up (up y 530 (y 530 + 1)) 534 (z 534 + 1) 530 = y 530 + 1 := by rw [up_ne (by omega), up_eq]
        have := n1.2.1
        exact ⟨⟨by omega, by omega, by omega, by omega⟩, by omega, Or.inr (Eq.refl _), fun _ => ⟨by omega, q⟩, fun j hj => (e j (by omega) (by omega)).trans (n1.2.2 j (by omega))⟩
      · rw [if_neg q3]
        have f := fl_ok n1.1 (k := 1) (by omega)
        exact ⟨f.1.1, by have := f.1.2.1; have := n1.2.1; dsimp only; omega, Or.inl (Eq.refl _), fun q => absurd q (by dsimp only; omega), fun j hj => (f.1.2.2 j (by omega)).trans (n1.2.2 j (by omega))⟩
  · rw [if_neg q]; exact ⟨h, Int.le_refl _, Or.inl (Eq.refl _), fun q => absurd q (by dsimp only; omega), fun _ _ => Eq.refl _⟩
/-! the bytes of a long number -/
def byteK (x : Int) (k : Int) : Int := x / 2 ^ (8 * (7 - k)).toNat % 256
def cntB (x : Int) : Nat → Int
  | 0 => 0
  | k + 1 => cntB x k + (if byteK x k = 0 then 0 else 1)
def sgnB (v : Int) : Int := if v < 128 then v else v - 256
def apB (x n : Int) (b : Row) : Nat → Row
  | 0 => b
  | k + 1 => if byteK x k = 0 then apB x n b k else up (apB x n b k) (n + cntB x k) (sgnB (byteK x k))
theorem byteK_bd {x k : Int} : 0 ≤ byteK x k ∧ byteK x k < 256 := by unfold byteK; omega
theorem cntB_bd {x : Int} {k : Nat} : 0 ≤ cntB x k ∧ cntB x k ≤ k := by
  induction k with
  | zero => exact ⟨Int.le_refl _, Int.le_refl _⟩
  | succ k ih => unfold cntB; split <;> omega
theorem BB_ap {x n : Int} {b : Row} (h : BB b) {k : Nat} : BB (apB x n b k) := by
  induction k with
  | zero => exact h
  | succ k ih =>
    unfold apB
    split
    · exact ih
    · intro j a c
      by_cases q : j = n + cntB x k
      · subst q; rw [up_eq]
        have := byteK_bd (x := x) (k := k)
        unfold sgnB; split <;> omega
      · rw [up_ne q]; exact ih j a c
/-! the twin's way agrees with the outcome -/
/-- the state Z, R behind a statement shows the outcome O -/
def PRel (O : PO) (Q : Row × Row) : Prop := Q.1 532 = O.1 ∧ (O.1 ≠ 0 → Q.1 533 = O.2.1) ∧ (O.1 = 0 → Q.1 530 = O.2.1 ∧ Q.1 535 = O.2.2.1 ∧ Q.2 = O.2.2.2)
theorem numR_k {b : Row} {n a lo hi : Int} : 0 ≤ (numR b n a lo hi).1 ∧ (numR b n a lo hi).1 ≤ 2 := by
  unfold numR ifP
  dsimp only
  split
  · split <;> (dsimp only; omega)
  · dsimp only; omega
/-- the next number, with what follows it -/
theorem thn_rel {b z rd : Row} {lo hi : Int} {f : Int → Int → PO} {F : Row × Int → Row × Row} (h : PB z) (h0 : z 532 = 0)
    (good : ∀ z' v, PB z' → z' 532 = 0 → z' 530 = (numR b (z 529) (z 530) lo hi).2.2 → v = (numR b (z 529) (z 530) lo hi).2.1 → (∀ j, ¬ (530 ≤ j ∧ j ≤ 533) → z' j = z j) → (lo ≤ v ∧ v ≤ hi ∨ v = lo) → PRel (f v (numR b (z 529) (z 530) lo hi).2.2) (F (z', v)))
    (bad' : ∀ z' v, PB z' → z' 532 ≠ 0 → (F (z', v)).1 532 = z' 532 ∧ (F (z', v)).1 533 = z' 533) : PRel (thn (numR b (z 529) (z 530) lo hi) f) (F (numF b lo hi z)) := by
  obtain ⟨a1, a2, a3, a4⟩ := num_ok (b := b) h (lo := lo) (hi := hi)
  obtain ⟨b1, b2, b3⟩ := a4 h0
  have key : F (numF b lo hi z) = F ((numF b lo hi z).1, (numF b lo hi z).2) := rfl
  rw [key]
  generalize (numF b lo hi z).1 = z' at *
  generalize (numF b lo hi z).2 = v at *
  unfold thn
  by_cases q : (numR b (z 529) (z 530) lo hi).1 = 0
  · rw [if_pos q]
    obtain ⟨c1, c2⟩ := b3 q
    rw [← c2]
    exact good z' v a1.1 (b1.trans q) c1 c2 a1.2.2 (by omega)
  · rw [if_neg q]
    obtain ⟨d1, d2⟩ := bad' z' v a1.1 (by rw [b1]; exact q)
    exact ⟨d1.trans b1, fun _ => d2.trans (b2 q), fun q2 => absurd q2 q⟩
theorem num_bad {b z : Row} (h : PB z) (h0 : z 532 ≠ 0) {lo hi : Int} : numF b lo hi z = (z, lo) := (num_ok (b := b) h).2.2.1 h0
theorem gm_rel {b z rd : Row} (h : PB z) (h0 : z 532 = 0) (h34 : z 534 = 0) : PRel (gameR b (z 529) (z 530) (z 535) rd) (gmF b z rd) := by
  unfold gameR gmF
  dsimp only
  rw [if_neg (show ¬ 0 < z 534 by omega)]
  refine thn_rel (rd := rd) (F := fun N1 => ((numF b 1 5 (numF b 2 4 (numF b 1 5 N1.1).1).1).1, up (up (up (up rd 0 N1.2) 1 (numF b 1 5 N1.1).2) 2 (numF b 2 4 (numF b 1 5 N1.1).1).2) 3 (numF b 1 5 (numF b 2 4 (numF b 1 5 N1.1).1).1).2)) h h0 (fun z1 v1 p1 e1 a1 d1 f1 _ => ?_) (fun z1 v1 p1 e1 => ?_)
  · rw [← a1, ← f1 529 (by omega), ← f1 535 (by omega)]
    refine thn_rel (rd := rd) (F := fun N2 => ((numF b 1 5 (numF b 2 4 N2.1).1).1, up (up (up (up rd 0 v1) 1 N2.2) 2 (numF b 2 4 N2.1).2) 3 (numF b 1 5 (numF b 2 4 N2.1).1).2)) p1 e1 (fun z2 v2 p2 e2 a2 d2 f2 _ => ?_) (fun z2 v2 p2 e2 => ?_)
    · rw [← a2, ← f2 529 (by omega), ← f2 535 (by omega)]
      refine thn_rel (rd := rd) (F := fun N3 => ((numF b 1 5 N3.1).1, up (up (up (up rd 0 v1) 1 v2) 2 N3.2) 3 (numF b 1 5 N3.1).2)) p2 e2 (fun z3 v3 p3 e3 a3 d3 f3 _ => ?_) (fun z3 v3 p3 e3 => ?_)
      · rw [← a3, ← f3 529 (by omega), ← f3 535 (by omega)]
        refine thn_rel (rd := rd) (F := fun N4 => (N4.1, up (up (up (up rd 0 v1) 1 v2) 2 v3) 3 N4.2)) p3 e3 (fun z4 v4 p4 e4 a4 d4 f4 _ => ?_) (fun z4 v4 p4 e4 => ⟨rfl, rfl⟩)
        exact ⟨e4, fun q => absurd rfl q, fun _ => ⟨a4, f4 535 (by omega), rfl⟩⟩
      · dsimp only; rw [num_bad p3 e3]; exact ⟨rfl, rfl⟩
    · dsimp only; rw [num_bad p2 e2]; dsimp only; rw [num_bad p2 e2]; exact ⟨rfl, rfl⟩
  · dsimp only; rw [num_bad p1 e1]; dsimp only; rw [num_bad p1 e1]; dsimp only; rw [num_bad p1 e1]; exact ⟨rfl, rfl⟩
theorem fl_rel {z rd : Row} (h : PB z) (h0 : z 532 = 0) {k : Int} (hk : 1 ≤ k ∧ k ≤ 4) : PRel (bad k (z 531)) (flF k z, rd) := by
  obtain ⟨a1, a2, a3, a4⟩ := fl_ok h hk
  rw [if_pos h0] at a2
  refine ⟨a2, fun _ => a3 h0, fun q => absurd q ?_⟩
  show k ≠ 0
  omega
theorem cd_rel {b z rd : Row} (h : PB z) (h0 : z 532 = 0) : PRel (cardR b (z 529) (z 530) (z 535) rd) (cdF b z rd) := by
  obtain ⟨g1, g2, g3, g4, g5⟩ := rd_ok (b := b) h.w
  unfold cardR cdF
  dsimp only
  rw [← g2, ← g3]
  have e35 := g1.2.2 535 (by omega)
  have e9 := g1.2.2 529 (by omega)
  generalize rdF b z = y at *
  have y0 : y 532 = 0 := g4.trans h0
  by_cases q : y 530 - y 531 = 1 ∧ isDg (chT b (z 529) (y 530))
  · rw [ifP_t q, ifP_t q]
    have hy := g1.1
    unfold PB at hy
    obtain ⟨f1, f2, f3, f4⟩ := scan_spec (b := b) (n := z 529) (i := y 530) (P := isDg) (by omega) nDg
    have ky : PB (up y 530 (scanT b (z 529) isDg (y 530))) := by
      have a1 := up_ne (r := y) (i := 530) (v := scanT b (z 529) isDg (y 530)) (show (529 : Int) ≠ 530 by omega)
      have a2 := up_ne (r := y) (i := 530) (v := scanT b (z 529) isDg (y 530)) (show (531 : Int) ≠ 530 by omega)
      have a3 := up_ne (r := y) (i := 530) (v := scanT b (z 529) isDg (y 530)) (show (532 : Int) ≠ 530 by omega)
      have a4 := up_eq (r := y) (i := 530) (v := scanT b (z 529) isDg (y 530))
      exact ⟨by omega, by omega, by omega, by omega⟩
    generalize dvN b (z 529) (y 530) (scanT b (z 529) isDg (y 530) - y 530).toNat = v at *
    generalize scanT b (z 529) isDg (y 530) = f at *
    have w0 : up y 530 f 532 = 0 := by rw [up_ne (by omega)]; exact y0
    have w1 : up y 530 f 531 = y 531 := up_ne (by omega)
    have w5 : up y 530 f 535 = z 535 := by rw [up_ne (by omega)]; exact e35
    unfold cdG
    dsimp only
    by_cases c1 : rd 0 ≤ b (y 531) - 97 ∨ ¬ (1 ≤ v ∧ v ≤ rd 1)
    · rw [if_pos c1, if_pos c1]
      have r := fl_rel (rd := rd) ky w0 (k := 2) (by omega)
      rw [w1] at r
      have r2 := r.1
      rw [if_neg (by dsimp only at r2; rw [r2]; show ¬ (2 : Int) = 0; omega)]
      exact r
    · rw [if_neg c1, if_neg c1]
      by_cases c2 : rd 4 = 40
      · rw [if_pos c2, if_pos c2]
        have r := fl_rel (rd := rd) ky w0 (k := 3) (by omega)
        rw [w1] at r
        have r2 := r.1
        rw [if_neg (by dsimp only at r2; rw [r2]; show ¬ (3 : Int) = 0; omega)]
        exact r
      · rw [if_neg c2, if_neg c2, if_pos w0]
        exact ⟨w0, fun q => absurd rfl q, fun _ => ⟨show up y 530 f 530 = f from up_eq, w5, rfl⟩⟩
  · rw [ifP_f q, ifP_f q]
    exact fl_rel g1.1 y0 (by omega)
theorem dk_rel {b : Row} {t : Nat} : ∀ {z rd : Row}, PB z → RdB rd → z 532 = 0 → PRel (deckR b (z 529) (z 535) t (z 530) rd) (dkF b t z rd) := by
  induction t with
  | zero => intro z rd h hr h0; exact ⟨h0, fun q => absurd rfl q, fun _ => ⟨rfl, rfl, rfl⟩⟩
  | succ t ih =>
    intro z rd h hr h0
    obtain ⟨c1, c2, c3⟩ := cd_rel (b := b) (rd := rd) h h0
    obtain ⟨k1, k2, k3⟩ := cd_ok (b := b) h hr
    unfold deckR dkF
    dsimp only
    generalize cdF b z rd = Q at *
    generalize cardR b (z 529) (z 530) (z 535) rd = O at *
    by_cases q : O.1 = 0
    · rw [if_neg (fun q2 => q2 q), if_pos (c1.trans q)]
      obtain ⟨d1, d2, d3⟩ := c3 q
      obtain ⟨n1, n2, n3, n4, n5⟩ := nx_ok (b := b) k1.1.w
      have e9 := k1.2.2 529 (by omega)
      have e35 := k1.2.2 535 (by omega)
      rw [e9, d1] at n2
      rw [← n2, ← d3]
      by_cases g : isLo (chT b (z 529) (nxF b Q.1 530))
      · rw [ifP_t g, ifP_t g]
        have := ih (z := nxF b Q.1) (rd := Q.2) n1.1 k2 (n4.trans (c1.trans q))
        rw [n1.2.2 529 (by omega), n1.2.2 535 (by omega), e9, e35] at this
        exact this
      · rw [ifP_f g, ifP_f g]
        exact ⟨n4.trans (c1.trans q), fun q => absurd rfl q, fun _ => ⟨rfl, (n1.2.2 535 (by omega)).trans e35, rfl⟩⟩
    · rw [if_pos q, if_neg (by rw [c1]; exact q)]
      exact ⟨c1, c2, c3⟩
theorem wp_rel {b z rd : Row} {w : Int} (h : PB z) (h0 : z 532 = 0) : PRel (wordR b (z 529) (z 530) (z 535) rd w) (wpF b w z rd) := by
  unfold wordR wpF
  dsimp only
  refine thn_rel (rd := rd) (F := fun N1 => ((numF b 0 99 N1.1).1, up rd (wordAtR w N1.2) (numF b 0 99 N1.1).2)) h h0 (fun z1 v1 p1 e1 a1 d1 f1 _ => ?_) (fun z1 v1 p1 e1 => ?_)
  · rw [← a1, ← f1 529 (by omega), ← f1 535 (by omega)]
    refine thn_rel (rd := rd) (F := fun N2 => (N2.1, up rd (wordAtR w v1) N2.2)) p1 e1 (fun z2 v2 p2 e2 a2 d2 f2 _ => ?_) (fun z2 v2 p2 e2 => ⟨rfl, rfl⟩)
    exact ⟨e2, fun q => absurd rfl q, fun _ => ⟨a2, f2 535 (by omega), rfl⟩⟩
  · dsimp only; rw [num_bad p1 e1]; exact ⟨rfl, rfl⟩
theorem st_rel {b z rd : Row} (h : PBw z) (hr : RdB rd) (h0 : z 532 = 0) (h34 : 0 ≤ z 534) : PRel (statR b (z 529) (z 530) (z 534) (z 535) rd) (stF b z rd) := by
  obtain ⟨g1, g2, g3, g4, g5⟩ := rd_ok (b := b) h
  unfold statR stF
  dsimp only
  rw [← g2, ← g3]
  have e9 := g1.2.2 529 (by omega)
  have e34 := g1.2.2 534 (by omega)
  have e35 := g1.2.2 535 (by omega)
  have y0 : rdF b z 532 = 0 := g4.trans h0
  generalize rdF b z = y at *
  rw [← e9, ← e34, ← e35]
  by_cases q1 : wordIs b (y 531) (y 530) wGame
  · rw [ifP_t q1, ifP_t q1]
    by_cases q : y 534 = 0
    · rw [if_pos q]; exact gm_rel g1.1 y0 q
    · rw [if_neg q]
      have r := fl_rel (rd := rd) g1.1 y0 (k := 1) (by omega)
      have r1 := r.1
      dsimp only at r1
      have f := fl_ok g1.1 (k := 1) (by omega)
      have hne : flF 1 y 532 ≠ 0 := by rw [r1]; show (1 : Int) ≠ 0; omega
      unfold gmF
      dsimp only
      rw [if_pos (show 0 < y 534 by omega), num_bad f.1.1 hne]
      dsimp only
      rw [num_bad f.1.1 hne]
      dsimp only
      rw [num_bad f.1.1 hne]
      dsimp only
      rw [num_bad f.1.1 hne]
      exact ⟨r.1, r.2.1, fun q => absurd q (by show (1 : Int) ≠ 0; omega)⟩
  rw [ifP_f q1, ifP_f q1]
  by_cases q2 : y 534 = 0
  · rw [if_pos q2, if_pos q2]; exact fl_rel g1.1 y0 (by omega)
  rw [if_neg q2, if_neg q2]
  by_cases q3 : wordIs b (y 531) (y 530) wDeck
  · rw [ifP_t q3, ifP_t q3]; exact dk_rel g1.1 hr y0
  rw [ifP_f q3, ifP_f q3]
  by_cases q4 : wordIs b (y 531) (y 530) wTokens
  · rw [ifP_t q4, ifP_t q4]
    refine thn_rel (rd := rd) (F := fun N1 => ((numF b 0 N1.2 N1.1).1, up (up rd 6 N1.2) 7 (numF b 0 N1.2 N1.1).2)) g1.1 y0 (fun z1 v1 p1 e1 a1 d1 f1 _ => ?_) (fun z1 v1 p1 e1 => ?_)
    · rw [← a1, ← f1 529 (by omega), ← f1 535 (by omega)]
      refine thn_rel (rd := rd) (F := fun N2 => (N2.1, up (up rd 6 v1) 7 N2.2)) p1 e1 (fun z2 v2 p2 e2 a2 d2 f2 _ => ?_) (fun z2 v2 p2 e2 => ⟨rfl, rfl⟩)
      exact ⟨e2, fun q => absurd rfl q, fun _ => ⟨a2, f2 535 (by omega), rfl⟩⟩
    · dsimp only; rw [num_bad p1 e1]; exact ⟨rfl, rfl⟩
  rw [ifP_f q4, ifP_f q4]
  by_cases q5 : wordIs b (y 531) (y 530) wLives
  · rw [ifP_t q5, ifP_t q5]
    refine thn_rel (rd := rd) (F := fun N1 => (N1.1, up rd 8 N1.2)) g1.1 y0 (fun z1 v1 p1 e1 a1 d1 f1 _ => ?_) (fun z1 v1 p1 e1 => ⟨rfl, rfl⟩)
    exact ⟨e1, fun q => absurd rfl q, fun _ => ⟨a1, f1 535 (by omega), rfl⟩⟩
  rw [ifP_f q5, ifP_f q5]
  by_cases q6 : wordIs b (y 531) (y 530) wColor
  · rw [ifP_t q6, ifP_t q6]; exact wp_rel g1.1 y0
  rw [ifP_f q6, ifP_f q6]
  by_cases q7 : wordIs b (y 531) (y 530) wRank
  · rw [ifP_t q7, ifP_t q7]; exact wp_rel g1.1 y0
  rw [ifP_f q7, ifP_f q7]
  by_cases q8 : wordIs b (y 531) (y 530) wShuffle
  · rw [ifP_t q8, ifP_t q8]
    refine thn_rel (rd := rd) (F := fun N1 => (up N1.1 535 N1.2, rd)) g1.1 y0 (fun z1 v1 p1 e1 a1 d1 f1 _ => ?_) (fun z1 v1 p1 e1 => ⟨show up z1 535 v1 532 = z1 532 from up_ne (by omega), show up z1 535 v1 533 = z1 533 from up_ne (by omega)⟩)
    exact ⟨show up z1 535 v1 532 = 0 from (up_ne (by omega)).trans e1, fun q => absurd rfl q, fun _ => ⟨show up z1 535 v1 530 = _ from (up_ne (by omega)).trans a1, show up z1 535 v1 535 = v1 from up_eq, rfl⟩⟩
  · rw [ifP_f q8, ifP_f q8]; exact fl_rel g1.1 y0 (by omega)
theorem ch_end {b : Row} {n s : Int} (hs : 0 ≤ s ∧ s ≤ n) : chT b n s < 0 ↔ s = n := by
  unfold chT
  by_cases q : s < n
  · rw [if_pos q]; omega
  · rw [if_neg q]; omega
theorem ldF_succ {b : Row} {t : Nat} {z rd : Row} : ldF b (t + 1) z rd = if (mrF b (stF b z rd).1).2 = 1 then ldF b t (mrF b (stF b z rd).1).1 (stF b z rd).2 else ((mrF b (stF b z rd).1).1, (stF b z rd).2) := rfl
theorem progR_succ {b : Row} {n at' stm sd : Int} {t : Nat} {rd : Row} : progR b n (t + 1) at' stm sd rd =
    if (statR b n at' stm sd rd).1 ≠ 0 then (stm, statR b n at' stm sd rd)
    else if chT b n (scanT b n isSp (statR b n at' stm sd rd).2.1) = -1 then (stm, if (statR b n at' stm sd rd).2.2.2 4 < (statR b n at' stm sd rd).2.2.2 2 * (statR b n at' stm sd rd).2.2.2 3 then bad 4 (scanT b n isSp (statR b n at' stm sd rd).2.1) else (0, scanT b n isSp (statR b n at' stm sd rd).2.1, (statR b n at' stm sd rd).2.2.1, (statR b n at' stm sd rd).2.2.2))
      else if chT b n (scanT b n isSp (statR b n at' stm sd rd).2.1) = 59 then progR b n t (scanT b n isSp (statR b n at' stm sd rd).2.1 + 1) (stm + 1) (statR b n at' stm sd rd).2.2.1 (statR b n at' stm sd rd).2.2.2 else (stm, bad 1 (scanT b n isSp (statR b n at' stm sd rd).2.1)) := rfl
theorem ld_rel {b : Row} {t : Nat} : ∀ {z rd : Row}, PBw z → RdB rd → z 532 = 0 → 0 ≤ z 534 → z 529 - z 530 < t →
    (ldF b t z rd).1 534 = (progR b (z 529) t (z 530) (z 534) (z 535) rd).1 ∧
    (((ldF b t z rd).1 532 ≠ 0 ∧ (progR b (z 529) t (z 530) (z 534) (z 535) rd).2.1 = (ldF b t z rd).1 532 ∧ (progR b (z 529) t (z 530) (z 534) (z 535) rd).2.2.1 = (ldF b t z rd).1 533) ∨
     ((ldF b t z rd).1 532 = 0 ∧ (progR b (z 529) t (z 530) (z 534) (z 535) rd).2 = (if (ldF b t z rd).2 4 < (ldF b t z rd).2 2 * (ldF b t z rd).2 3 then bad 4 (z 529) else (0, z 529, (ldF b t z rd).1 535, (ldF b t z rd).2)))) ∧
    PB (ldF b t z rd).1 ∧ RdB (ldF b t z rd).2 ∧ ∀ j, ¬ (530 ≤ j ∧ j ≤ 535) → (ldF b t z rd).1 j = z j := by
  induction t with
  | zero => intro z rd h hr h0 h34 ht; have := h.2.2.1; omega
  | succ t ih =>
    intro z rd h hr h0 h34 ht
    obtain ⟨c1, c2, c3⟩ := st_rel (b := b) h hr h0 h34
    obtain ⟨k1, k2, k3, k4⟩ := st_ok (b := b) h hr
    have e9 := k3 529 (by omega) (by omega)
    have e34 := k3 534 (by omega) (by omega)
    obtain ⟨m1, m2, m3, m4, m5⟩ := mr_ok (b := b) k1
    rw [ldF_succ, progR_succ]
    generalize hQ : stF b z rd = Q at *
    generalize statR b (z 529) (z 530) (z 534) (z 535) rd = O at *
    generalize hM : mrF b Q.1 = M at *
    by_cases q : O.1 = 0
    · rw [if_neg (show ¬ O.1 ≠ 0 from fun q2 => q2 q)]
      obtain ⟨d1, d2, d3⟩ := c3 q
      have q0 : Q.1 532 = 0 := c1.trans q
      obtain ⟨n1, n2, n3, n4, n5⟩ := nx_ok (b := b) k1.w
      have n9 := n1.2.2 529 (by omega)
      rw [e9, d1] at n2
      have hmr : M = if chT b (z 529) (nxF b Q.1 530) < 0 then (nxF b Q.1, 0) else if chT b (z 529) (nxF b Q.1 530) = 59 then (up (up (nxF b Q.1) 530 (nxF b Q.1 530 + 1)) 534 (Q.1 534 + 1), 1) else (flF 1 (nxF b Q.1), 0) := by
        rw [← hM]; unfold mrF; rw [if_pos q0, e9]
      rw [← n2, ← d3, ← d2]
      have y35 := n1.2.2 535 (by omega)
      have y34 := n1.2.2 534 (by omega)
      have hyb := n1.1
      have hn1 := n1.2.2
      have hnle := n1.2.1
      generalize nxF b Q.1 = y at *
      unfold PB at hyb
      have hend := ch_end (b := b) (n := z 529) (s := y 530) (by omega)
      have hcb := ch_bd (b := b) (n := z 529) (i := y 530)
      by_cases g1 : chT b (z 529) (y 530) < 0
      · have g2 : chT b (z 529) (y 530) = -1 := by omega
        have g3 := hend.mp g1
        rw [if_pos g1] at hmr
        rw [if_pos g2]
        clear hM
        subst hmr
        rw [if_neg (show ¬ (0 : Int) = 1 by omega)]
        refine ⟨by dsimp only; omega, Or.inr ⟨by dsimp only; omega, ?_⟩, n1.1, k4, fun j hj => (hn1 j (by omega)).trans (k3 j (by omega) (by omega))⟩
        dsimp only
        rw [g3, y35]
      · have g2 : ¬ chT b (z 529) (y 530) = -1 := by omega
        rw [if_neg g1] at hmr
        rw [if_neg g2]
        by_cases g4 : chT b (z 529) (y 530) = 59
        · rw [if_pos g4] at hmr
          rw [if_pos g4]
          clear hM
          subst hmr
          rw [if_pos (show (1 : Int) = 1 from rfl)]
          dsimp only at m1 m2 m3 m4 m5 ⊢
          have f0 : up (up y 530 (y 530 + 1)) 534 (Q.1 534 + 1) 530 = y 530 + 1 := by rw [up_ne (by omega), up_eq]
          have f34 : up (up y 530 (y 530 + 1)) 534 (Q.1 534 + 1) 534 = z 534 + 1 := by rw [up_eq, e34]
          have f35 : up (up y 530 (y 530 + 1)) 534 (Q.1 534 + 1) 535 = Q.1 535 := by rw [up_ne (by omega), up_ne (by omega), y35]
          have f9 : up (up y 530 (y 530 + 1)) 534 (Q.1 534 + 1) 529 = z 529 := by rw [up_ne (by omega), up_ne (by omega)]; omega
          have f32 : up (up y 530 (y 530 + 1)) 534 (Q.1 534 + 1) 532 = 0 := by rw [up_ne (by omega), up_ne (by omega)]; omega
          have r := ih (z := up (up y 530 (y 530 + 1)) 534 (Q.1 534 + 1)) (rd := Q.2) m1.w k4 f32 (by omega) (by omega)
          rw [f0, f34, f35, f9] at r
          obtain ⟨r1, r2, r3, r4, r5⟩ := r
          exact ⟨r1, r2, r3, r4, fun j hj => (r5 j hj).trans (by rw [up_ne (by omega), up_ne (by omega)]; exact (hn1 j (by omega)).trans (k3 j (by omega) (by omega)))⟩
        · rw [if_neg g4] at hmr
          rw [if_neg g4]
          clear hM
          subst hmr
          rw [if_neg (show ¬ (0 : Int) = 1 by omega)]
          have f := fl_ok n1.1 (k := 1) (by omega)
          have y0 : y 532 = 0 := n4.trans q0
          have f2 := f.2.1
          rw [if_pos y0] at f2
          have f3 := f.2.2.1 y0
          dsimp only
          refine ⟨by rw [f.1.2.2 534 (by omega)]; omega, Or.inl ⟨by omega, f2.symm, ?_⟩, f.1.1, k4, fun j hj => (f.1.2.2 j (by omega)).trans ((hn1 j (by omega)).trans (k3 j (by omega) (by omega)))⟩
          show y 530 = _
          rw [f3]; omega
    · rw [if_pos q]
      have q0 : Q.1 532 ≠ 0 := by rw [c1]; exact q
      have hmr : M = (Q.1, 0) := by rw [← hM]; unfold mrF; rw [if_neg q0]
      clear hM
      subst hmr
      rw [if_neg (show ¬ (0 : Int) = 1 by omega)]
      exact ⟨e34, Or.inl ⟨q0, c1.symm, (c2 q).symm⟩, k1, k4, fun j hj => k3 j (by omega) (by omega)⟩
/-! the beginning, on rows that are the same where a game lies -/
theorem eqv_up {r r' : Row} (h : eqv r r') {i v : Int} : eqv (up r i v) (up r' i v) := fun j a b => by
  unfold up; split
  · rfl
  · exact h j a b
theorem eqv_draws {r r' : Row} (h : eqv r r') {p : Int} (hp : 0 ≤ p ∧ p < 4) : eqv (drawsR r p) (drawsR r' p) := by
  unfold drawsR
  rw [h 5 (by omega) (by omega), h 4 (by omega) (by omega), h (187 + p) (by omega) (by omega)]
  split
  · exact eqv_up (eqv_up (eqv_up h))
  · exact h
theorem eqv_deal {r r' : Row} (h : eqv r r') {p : Int} (hp : 0 ≤ p ∧ p < 4) (n : Nat) : eqv (dealN p n r) (dealN p n r') := by
  induction n with
  | zero => exact h
  | succ n ih => exact eqv_draws ih hp
theorem eqv_deals {r r' : Row} (h : eqv r r') (hand : Nat) {n : Nat} (hn : n ≤ 4) : eqv (dealsN hand n r) (dealsN hand n r') := by
  induction n with
  | zero => exact h
  | succ n ih => exact eqv_deal (ih (by omega)) (by omega) hand
theorem eqv_full {r r' : Row} (h : eqv r r') : eqv (fullS r) (fullS r') := fun j a b => by
  unfold fullS
  rw [h 0 (by omega) (by omega), h 1 (by omega) (by omega), h j a b]
def beginB (r0 : Row) : Row :=
  let r1 := dealsN (r0 3).toNat (r0 2).toNat (fullS (up r0 9 (-1)))
  if r1 5 = r1 4 then up r1 9 (r1 2) else r1
theorem eqv_begin {r r' : Row} (h : eqv r r') (h2 : r 2 ≤ 4) : eqv (beginB r) (beginB r') := by
  unfold beginB
  dsimp only
  rw [h 3 (by omega) (by omega), h 2 (by omega) (by omega)]
  have e := eqv_deals (eqv_full (eqv_up h (i := 9) (v := -1))) (r 3).toNat (n := (r 2).toNat) (by omega)
  rw [e 5 (by omega) (by omega), e 4 (by omega) (by omega), e 2 (by omega) (by omega)]
  split
  · exact eqv_up e
  · exact e
theorem beginR_eq {sd : Int} {rd : Row} : beginR sd rd = beginB (shufR sd rd) := rfl
theorem eqv_cp {f t : Row} : eqv f (cpR f 0 t 0) := fun j a b => by
  unfold cpR; rw [if_pos (by omega)]; congr 1; omega
/-! what a shuffle keeps -/
theorem lcg_bd {s : Int} : 0 ≤ lcgS s ∧ lcgS s < 2147483648 := by unfold lcgS; omega
theorem shuf_at {k : Nat} : ∀ {s : Int} {r : Row} {j : Int}, (j < 27 ∨ 27 + k < j) → shufN k s r j = r j := by
  induction k with
  | zero => intro s r j _; rfl
  | succ k ih =>
    intro s r j hj
    have h1 := lcg_bd (s := s)
    have h2 : 0 ≤ lcgS s / 65536 % ((k : Int) + 2) := Int.emod_nonneg _ (by omega)
    have h3 : lcgS s / 65536 % ((k : Int) + 2) < (k : Int) + 2 := Int.emod_lt_of_pos _ (by omega)
    show shufN k (lcgS s) (up (up r (27 + ((k : Int) + 1)) (r (27 + lcgS s / 65536 % ((k : Int) + 2)))) (27 + lcgS s / 65536 % ((k : Int) + 2)) (r (27 + ((k : Int) + 1)))) j = r j
    rw [ih (by omega), up_ne (by omega), up_ne (by omega)]
theorem shufR_at {sd : Int} {r : Row} (h4 : 0 ≤ r 4 ∧ r 4 ≤ 40) {j : Int} (hj : j < 27 ∨ 67 ≤ j) : shufR sd r j = r j := by
  unfold shufR
  split
  · rfl
  · exact shuf_at (by omega)
/-- each card is one of the old ones -/
theorem shuf_all {k : Nat} {P : Int → Prop} : ∀ {s : Int} {r : Row}, (∀ c : Int, 0 ≤ c → c ≤ k → P (r (27 + c))) → ∀ c : Int, 0 ≤ c → c ≤ k → P (shufN k s r (27 + c)) := by
  induction k with
  | zero => intro s r h c a b; exact h c a b
  | succ k ih =>
    intro s r h c a b
    have h2 : 0 ≤ lcgS s / 65536 % ((k : Int) + 2) := Int.emod_nonneg _ (by omega)
    have h3 : lcgS s / 65536 % ((k : Int) + 2) < (k : Int) + 2 := Int.emod_lt_of_pos _ (by omega)
    show P (shufN k (lcgS s) (up (up r (27 + ((k : Int) + 1)) (r (27 + lcgS s / 65536 % ((k : Int) + 2)))) (27 + lcgS s / 65536 % ((k : Int) + 2)) (r (27 + ((k : Int) + 1)))) (27 + c))
    generalize lcgS s / 65536 % ((k : Int) + 2) = o at *
    have hnew : ∀ c : Int, 0 ≤ c → c ≤ k + 1 → P (up (up r (27 + ((k : Int) + 1)) (r (27 + o))) (27 + o) (r (27 + ((k : Int) + 1))) (27 + c)) := fun c a b => by
      by_cases q : c = o
      · subst q; rw [up_eq]; exact h _ (by omega) (by omega)
      · rw [up_ne (by omega)]
        by_cases q2 : c = k + 1
        · subst q2; rw [up_eq]; exact h _ (by omega) (by omega)
        · rw [up_ne (by omega)]; exact h c a (by omega)
    by_cases q : c ≤ k
    · exact ih (fun c a b => hnew c a (by omega)) c a q
    · rw [shuf_at (by omega)]; exact hnew c a (by omega)
/-! ===== what a description without errors says ===== -/
/-- but for the game's numbers -/
def PW (rd : Row) : Prop :=
  (0 ≤ rd 4 ∧ rd 4 ≤ 40) ∧ (1 ≤ rd 6 ∧ rd 6 ≤ 9) ∧ (0 ≤ rd 7 ∧ rd 7 ≤ rd 6) ∧ (1 ≤ rd 8 ∧ rd 8 ≤ 5) ∧ RW rd ∧
  (∀ c, 0 ≤ c → c < rd 4 → 0 ≤ rd (27 + c) ∧ colR (rd (27 + c)) < rd 0 ∧ rnkR (rd (27 + c)) ≤ rd 1) ∧ (∀ j, (rd 4 ≤ j - 27 ∧ 27 ≤ j ∧ j < 67) ∨ j = 5 ∨ (9 ≤ j ∧ j < 18) ∨ (67 ≤ j ∧ j < 358) → rd j = 0)
def PG (rd : Row) : Prop := (1 ≤ rd 0 ∧ rd 0 ≤ 4) ∧ (1 ≤ rd 1 ∧ rd 1 ≤ 5) ∧ (2 ≤ rd 2 ∧ rd 2 ≤ 4) ∧ (1 ≤ rd 3 ∧ rd 3 ≤ 5)
def PZ (rd : Row) : Prop := rd 0 = 0 ∧ rd 1 = 0 ∧ rd 2 = 0 ∧ rd 3 = 0 ∧ rd 4 = 0
theorem PW_rd0 {rd : Row} (h : eqv rd0 rd) : PW rd ∧ PZ rd := by
  have e : ∀ j, 0 ≤ j → j < 358 → rd j = rd0 j := h
  have z : ∀ j, j ≠ 6 → j ≠ 7 → j ≠ 8 → ¬ (18 ≤ j ∧ j < 27) → 0 ≤ j → j < 358 → rd j = 0 := fun j a b c d f g => by rw [e j f g]; unfold rd0; rw [up_ne c, up_ne b, up_ne a, if_neg d]
  have e6 : rd 6 = 8 := by rw [e 6 (by omega) (by omega)]; unfold rd0; rw [up_ne (by omega), up_ne (by omega), up_eq]
  have e7 : rd 7 = 8 := by rw [e 7 (by omega) (by omega)]; unfold rd0; rw [up_ne (by omega), up_eq]
  have e8 : rd 8 = 3 := by rw [e 8 (by omega) (by omega)]; unfold rd0; rw [up_eq]
  have z4 := z 4 (by omega) (by omega) (by omega) (by omega) (by omega) (by omega)
  refine ⟨⟨by omega, by omega, by omega, by omega, fun w a b => ?_, fun c a b => by omega, fun j hj => z j (by omega) (by omega) (by omega) (by omega) (by omega) (by omega)⟩, ?_⟩
  · rw [e w (by omega) (by omega)]; unfold rd0; rw [up_ne (by omega), up_ne (by omega), up_ne (by omega), if_pos (by omega)]; omega
  · exact ⟨z 0 (by omega) (by omega) (by omega) (by omega) (by omega) (by omega), z 1 (by omega) (by omega) (by omega) (by omega) (by omega) (by omega), z 2 (by omega) (by omega) (by omega) (by omega) (by omega) (by omega), z 3 (by omega) (by omega) (by omega) (by omega) (by omega) (by omega), z4⟩
theorem num_val {b : Row} {n a lo hi : Int} (h : (numR b n a lo hi).1 = 0) : lo ≤ (numR b n a lo hi).2.1 ∧ (numR b n a lo hi).2.1 ≤ hi := by
  unfold numR at h ⊢
  dsimp only at h ⊢
  by_cases d : isDg (chT b n (scanT b n isSp a))
  · rw [ifP_t d] at h ⊢
    by_cases v : lo ≤ dvN b n (scanT b n isSp a) (scanT b n isDg (scanT b n isSp a) - scanT b n isSp a).toNat ∧ dvN b n (scanT b n isSp a) (scanT b n isDg (scanT b n isSp a) - scanT b n isSp a).toNat ≤ hi
    · rw [if_pos v] at h ⊢; exact v
    · rw [if_neg v] at h; exact absurd h (by dsimp only; omega)
  · rw [ifP_f d] at h; exact absurd h (by dsimp only; omega)
theorem thn_ok {N : Int × Int × Int} {f : Int → Int → PO} {P : PO → Prop} (h : (thn N f).1 = 0) (g : N.1 = 0 → (f N.2.1 N.2.2).1 = 0 → P (f N.2.1 N.2.2)) : P (thn N f) := by
  unfold thn at h ⊢
  by_cases q : N.1 = 0
  · rw [if_pos q] at h ⊢; exact g q h
  · rw [if_neg q] at h; exact absurd h q
theorem PW_up {rd : Row} (h : PW rd) {j v : Int} (hj : j = 2 ∨ j = 3) : PW (up rd j v) := by
  obtain ⟨h4, h6, h7, h8, hw, hc, hz⟩ := h
  have e : ∀ i, i ≠ j → up rd j v i = rd i := fun i q => up_ne q
  refine ⟨by rw [e 4 (by omega)]; exact h4, by rw [e 6 (by omega)]; exact h6, by rw [e 7 (by omega), e 6 (by omega)]; exact h7, by rw [e 8 (by omega)]; exact h8, RW_same (fun i hi => e i (by omega)) hw, fun c a b => ?_, fun i hi => ?_⟩
  · rw [e 4 (by omega)] at b; rw [e (27 + c) (by omega), e 0 (by omega), e 1 (by omega)]; exact hc c a b
  · rw [e 4 (by omega)] at hi; rw [e i (by omega)]; exact hz i hi
theorem game_ok {b : Row} {n a sd : Int} {rd : Row} (h : PW rd) (hz : PZ rd) (h0 : (gameR b n a sd rd).1 = 0) : PW (gameR b n a sd rd).2.2.2 ∧ PG (gameR b n a sd rd).2.2.2 ∧ (gameR b n a sd rd).2.2.1 = sd := by
  unfold gameR at h0 ⊢
  refine thn_ok (P := fun O => PW O.2.2.2 ∧ PG O.2.2.2 ∧ O.2.2.1 = sd) h0 fun k1 h1 => ?_
  refine thn_ok (P := fun O => PW O.2.2.2 ∧ PG O.2.2.2 ∧ O.2.2.1 = sd) h1 fun k2 h2 => ?_
  refine thn_ok (P := fun O => PW O.2.2.2 ∧ PG O.2.2.2 ∧ O.2.2.1 = sd) h2 fun k3 h3 => ?_
  refine thn_ok (P := fun O => PW O.2.2.2 ∧ PG O.2.2.2 ∧ O.2.2.1 = sd) h3 fun k4 h4 => ?_
  have v1 := num_val k1
  have v2 := num_val k2
  have v3 := num_val k3
  have v4 := num_val k4
  generalize (numR b n (numR b n (numR b n (numR b n a 1 4).2.2 1 5).2.2 2 4).2.2 1 5).2.1 = x4 at *
  generalize (numR b n (numR b n (numR b n a 1 4).2.2 1 5).2.2 2 4).2.1 = x3 at *
  generalize (numR b n (numR b n a 1 4).2.2 1 5).2.1 = x2 at *
  generalize (numR b n a 1 4).2.1 = x1 at *
  obtain ⟨p4, p6, p7, p8, hw, hc, hzz⟩ := id h
  have z4 : rd 4 = 0 := hz.2.2.2.2
  dsimp only
  have e : ∀ i, 4 ≤ i → up (up (up (up rd 0 x1) 1 x2) 2 x3) 3 x4 i = rd i := fun i q => by rw [up_ne (by omega), up_ne (by omega), up_ne (by omega), up_ne (by omega)]
  have e0 : up (up (up (up rd 0 x1) 1 x2) 2 x3) 3 x4 0 = x1 := by rw [up_ne (by omega), up_ne (by omega), up_ne (by omega), up_eq]
  have e1 : up (up (up (up rd 0 x1) 1 x2) 2 x3) 3 x4 1 = x2 := by rw [up_ne (by omega), up_ne (by omega), up_eq]
  have e2 : up (up (up (up rd 0 x1) 1 x2) 2 x3) 3 x4 2 = x3 := by rw [up_ne (by omega), up_eq]
  have e3 : up (up (up (up rd 0 x1) 1 x2) 2 x3) 3 x4 3 = x4 := up_eq
  refine ⟨⟨by rw [e 4 (by omega)]; exact p4, by rw [e 6 (by omega)]; exact p6, by rw [e 7 (by omega), e 6 (by omega)]; exact p7, by rw [e 8 (by omega)]; exact p8, RW_same (fun i hi => e i (by omega)) hw, fun c a b => ?_, fun i hi => ?_⟩, ⟨by rw [e0]; omega, by rw [e1]; omega, by rw [e2]; omega, by rw [e3]; omega⟩, rfl⟩
  · rw [e 4 (by omega)] at b; omega
  · rw [e 4 (by omega)] at hi; rw [e i (by omega)]; exact hzz i hi
theorem card_ok {b : Row} {n a sd : Int} {rd : Row} (hb : BB b) (hn : n ≤ 600) (ha : 0 ≤ a ∧ a ≤ n) (h : PW rd) (hg : PG rd) (h0 : (cardR b n a sd rd).1 = 0) : PW (cardR b n a sd rd).2.2.2 ∧ PG (cardR b n a sd rd).2.2.2 ∧ (cardR b n a sd rd).2.2.1 = sd ∧ (a ≤ (cardR b n a sd rd).2.1 ∧ (cardR b n a sd rd).2.1 ≤ n) := by
  obtain ⟨s1, s2, s3, s4⟩ := scan_spec (b := b) (n := n) (i := a) (P := isSp) ha nSp
  unfold cardR at h0 ⊢
  dsimp only at h0 ⊢
  generalize scanT b n isSp a = s at *
  obtain ⟨t1, t2, t3, t4⟩ := scan_spec (b := b) (n := n) (i := s) (P := isLo) (by omega) nLo
  generalize scanT b n isLo s = e at *
  obtain ⟨u1, u2, u3, u4⟩ := scan_spec (b := b) (n := n) (i := e) (P := isDg) (by omega) nDg
  by_cases q : e - s = 1 ∧ isDg (chT b n e)
  · rw [ifP_t q] at h0 ⊢
    have hl := t4 s (by omega) (by omega)
    generalize scanT b n isDg e = f at *
    generalize dvN b n e (f - e).toNat = rk at *
    unfold isLo chT at hl
    rw [if_pos (by omega)] at hl
    by_cases c1 : rd 0 ≤ b s - 97 ∨ ¬ (1 ≤ rk ∧ rk ≤ rd 1)
    · rw [if_pos c1] at h0; exact absurd h0 (by unfold bad; dsimp only; omega)
    · rw [if_neg c1] at h0 ⊢
      by_cases c2 : rd 4 = 40
      · rw [if_pos c2] at h0; exact absurd h0 (by unfold bad; dsimp only; omega)
      · rw [if_neg c2] at h0 ⊢
        have hbs := hb s (by omega) (by omega)
        obtain ⟨p4, p6, p7, p8, hw, hc, hzz⟩ := id h
        unfold PG at hg
        have hlet : 0 ≤ b s - 97 ∧ b s - 97 < rd 0 := by omega
        have hcol : colR (5 * (b s - 97) + rk - 1) = b s - 97 := by unfold colR; omega
        have hrnk : rnkR (5 * (b s - 97) + rk - 1) = rk := by unfold rnkR; omega
        dsimp only
        have e : ∀ i, i ≠ 4 → i ≠ 27 + rd 4 → up (up rd (27 + rd 4) (5 * (b s - 97) + rk - 1)) 4 (rd 4 + 1) i = rd i := fun i q q2 => by rw [up_ne q, up_ne q2]
        have e4 : up (up rd (27 + rd 4) (5 * (b s - 97) + rk - 1)) 4 (rd 4 + 1) 4 = rd 4 + 1 := up_eq
        have ek : up (up rd (27 + rd 4) (5 * (b s - 97) + rk - 1)) 4 (rd 4 + 1) (27 + rd 4) = 5 * (b s - 97) + rk - 1 := by rw [up_ne (by omega), up_eq]
        have e0 := e 0 (by omega) (by omega)
        have e1 := e 1 (by omega) (by omega)
        have e2 := e 2 (by omega) (by omega)
        have e3 := e 3 (by omega) (by omega)
        have e6 := e 6 (by omega) (by omega)
        have e7 := e 7 (by omega) (by omega)
        have e8 := e 8 (by omega) (by omega)
        refine ⟨⟨by omega, by omega, by omega, by omega, RW_same (fun i hi => e i (by omega) (by omega)) hw, fun c a b => ?_, fun i hi => ?_⟩, by unfold PG; omega, rfl, by omega, by omega⟩
        · rw [e0, e1]
          by_cases g : c = rd 4
          · subst g; rw [ek, hcol, hrnk]; omega
          · rw [e (27 + c) (by omega) (by omega)]; exact hc c a (by omega)
        · rw [e4] at hi
          rw [e i (by omega) (by omega)]; exact hzz i (by omega)
  · rw [ifP_f q] at h0; exact absurd h0 (by unfold bad; dsimp only; omega)
theorem deck_ok {b : Row} {n sd : Int} (hb : BB b) (hn : n ≤ 600) {t : Nat} : ∀ {a : Int} {rd : Row}, 0 ≤ a ∧ a ≤ n → PW rd → PG rd → (deckR b n sd t a rd).1 = 0 → PW (deckR b n sd t a rd).2.2.2 ∧ PG (deckR b n sd t a rd).2.2.2 ∧ (deckR b n sd t a rd).2.2.1 = sd := by
  induction t with
  | zero => intro a rd ha h hg _; exact ⟨h, hg, rfl⟩
  | succ t ih =>
    intro a rd ha h hg h0
    have hs : deckR b n sd (t + 1) a rd = if (cardR b n a sd rd).1 ≠ 0 then cardR b n a sd rd else ifP (isLo (chT b n (scanT b n isSp (cardR b n a sd rd).2.1))) (deckR b n sd t (scanT b n isSp (cardR b n a sd rd).2.1) (cardR b n a sd rd).2.2.2) (0, scanT b n isSp (cardR b n a sd rd).2.1, sd, (cardR b n a sd rd).2.2.2) := rfl
    rw [hs] at h0 ⊢
    by_cases q : (cardR b n a sd rd).1 = 0
    · rw [if_neg (show ¬ (cardR b n a sd rd).1 ≠ 0 from fun g => g q)] at h0 ⊢
      obtain ⟨c1, c2, c3, c4, c5⟩ := card_ok hb hn ha h hg q
      generalize cardR b n a sd rd = O at *
      obtain ⟨s1, s2, s3, s4⟩ := scan_spec (b := b) (n := n) (i := O.2.1) (P := isSp) (by omega) nSp
      generalize scanT b n isSp O.2.1 = s at *
      by_cases g : isLo (chT b n s)
      · rw [ifP_t g] at h0 ⊢
        exact ih (by omega) c1 c2 h0
      · rw [ifP_f g]; exact ⟨c1, c2, rfl⟩
    · rw [if_pos q] at h0; exact absurd h0 q
theorem PW_word {rd : Row} (h : PW rd) {j v : Int} (hj : 18 ≤ j ∧ j < 27) (hv : 0 ≤ v ∧ v ≤ 99) : PW (up rd j v) := by
  obtain ⟨h4, h6, h7, h8, hw, hc, hz⟩ := h
  have e : ∀ i, i ≠ j → up rd j v i = rd i := fun i q => up_ne q
  refine ⟨by rw [e 4 (by omega)]; exact h4, by rw [e 6 (by omega)]; exact h6, by rw [e 7 (by omega), e 6 (by omega)]; exact h7, by rw [e 8 (by omega)]; exact h8, fun w a b => ?_, fun c a b => ?_, fun i hi => ?_⟩
  · by_cases q : w = j
    · subst q; rw [up_eq]; exact hv
    · rw [e w q]; exact hw w a b
  · rw [e 4 (by omega)] at b; rw [e (27 + c) (by omega), e 0 (by omega), e 1 (by omega)]; exact hc c a b
  · rw [e 4 (by omega)] at hi; rw [e i (by omega)]; exact hz i hi
theorem PG_up {rd : Row} (h : PG rd) {j v : Int} (hj : 4 ≤ j) : PG (up rd j v) := by
  unfold PG at *
  rw [up_ne (show (0 : Int) ≠ j by omega), up_ne (show (1 : Int) ≠ j by omega), up_ne (show (2 : Int) ≠ j by omega), up_ne (show (3 : Int) ≠ j by omega)]
  exact h
theorem word_ok {b : Row} {n a sd w : Int} {rd : Row} (h : PW rd) (hg : PG rd) (hw : w = 0 ∨ w = 1) (h0 : (wordR b n a sd rd w).1 = 0) : PW (wordR b n a sd rd w).2.2.2 ∧ PG (wordR b n a sd rd w).2.2.2 ∧ (wordR b n a sd rd w).2.2.1 = sd := by
  unfold wordR at h0 ⊢
  refine thn_ok (P := fun O => PW O.2.2.2 ∧ PG O.2.2.2 ∧ O.2.2.1 = sd) h0 fun k1 h1 => ?_
  refine thn_ok (P := fun O => PW O.2.2.2 ∧ PG O.2.2.2 ∧ O.2.2.1 = sd) h1 fun k2 h2 => ?_
  have v1 := num_val k1
  have v2 := num_val k2
  have hg2 := id hg
  unfold PG at hg2
  have hwo : wordOK w (numR b n a (if w = 0 then 0 else 1) (if w = 0 then rd 0 - 1 else rd 1)).2.1 := by
    unfold wordOK
    rcases hw with rfl | rfl
    · rw [if_pos rfl, if_pos rfl] at v1 ⊢; omega
    · rw [if_neg (by omega), if_neg (by omega)] at v1 ⊢; omega
  have hwb := wordAt_bd hwo
  exact ⟨PW_word h hwb v2, PG_up hg (by omega), rfl⟩
theorem stat_ok {b : Row} {n a stm sd : Int} {rd : Row} (hb : BB b) (hn : n ≤ 600) (ha : 0 ≤ a ∧ a ≤ n) (h : PW rd) (hg : if stm = 0 then PZ rd else PG rd) (hsd : -1 ≤ sd ∧ sd ≤ 999999) (h0 : (statR b n a stm sd rd).1 = 0) : PW (statR b n a stm sd rd).2.2.2 ∧ PG (statR b n a stm sd rd).2.2.2 ∧ (-1 ≤ (statR b n a stm sd rd).2.2.1 ∧ (statR b n a stm sd rd).2.2.1 ≤ 999999) := by
  obtain ⟨s1, s2, s3, s4⟩ := scan_spec (b := b) (n := n) (i := a) (P := isSp) ha nSp
  unfold statR at h0 ⊢
  dsimp only at h0 ⊢
  generalize scanT b n isSp a = s at *
  obtain ⟨t1, t2, t3, t4⟩ := scan_spec (b := b) (n := n) (i := s) (P := isLo) (by omega) nLo
  generalize scanT b n isLo s = e at *
  have nb : ∀ {k x : Int} {C : PO → Prop}, k ≠ 0 → (bad k x).1 = 0 → C (bad k x) := fun hk hh => absurd hh hk
  by_cases q1 : wordIs b s e wGame
  · rw [ifP_t q1] at h0 ⊢
    by_cases q : stm = 0
    · rw [if_pos q] at h0 ⊢ hg
      obtain ⟨a1, a2, a3⟩ := game_ok h hg h0
      exact ⟨a1, a2, by rw [a3]; exact hsd⟩
    · rw [if_neg q] at h0; exact absurd h0 (by unfold bad; dsimp only; omega)
  rw [ifP_f q1] at h0 ⊢
  by_cases q : stm = 0
  · rw [if_pos q] at h0; exact absurd h0 (by unfold bad; dsimp only; omega)
  rw [if_neg q] at h0 ⊢ hg
  by_cases q3 : wordIs b s e wDeck
  · rw [ifP_t q3] at h0 ⊢
    obtain ⟨a1, a2, a3⟩ := deck_ok hb hn (by omega) h hg h0
    exact ⟨a1, a2, by rw [a3]; exact hsd⟩
  rw [ifP_f q3] at h0 ⊢
  by_cases q4 : wordIs b s e wTokens
  · rw [ifP_t q4] at h0 ⊢
    refine thn_ok (P := fun O => PW O.2.2.2 ∧ PG O.2.2.2 ∧ (-1 ≤ O.2.2.1 ∧ O.2.2.1 ≤ 999999)) h0 fun k1 h1 => ?_
    refine thn_ok (P := fun O => PW O.2.2.2 ∧ PG O.2.2.2 ∧ (-1 ≤ O.2.2.1 ∧ O.2.2.1 ≤ 999999)) h1 fun k2 h2 => ?_
    have v1 := num_val k1
    have v2 := num_val k2
    generalize (numR b n (numR b n e 1 9).2.2 0 (numR b n e 1 9).2.1).2.1 = y at *
    generalize (numR b n e 1 9).2.1 = x at *
    dsimp only
    refine ⟨?_, PG_up (PG_up hg (by omega)) (by omega), hsd⟩
    obtain ⟨h4, h6, h7, h8, hw, hc, hz⟩ := h
    have e9 : ∀ i, i ≠ 6 → i ≠ 7 → up (up rd 6 x) 7 y i = rd i := fun i q q' => by rw [up_ne q', up_ne q]
    have e6 : up (up rd 6 x) 7 y 6 = x := by rw [up_ne (by omega), up_eq]
    have e7 : up (up rd 6 x) 7 y 7 = y := up_eq
    refine ⟨by rw [e9 4 (by omega) (by omega)]; exact h4, by omega, by omega, by rw [e9 8 (by omega) (by omega)]; exact h8, RW_same (fun i hi => e9 i (by omega) (by omega)) hw, fun c a b => ?_, fun i hi => ?_⟩
    · rw [e9 4 (by omega) (by omega)] at b; rw [e9 (27 + c) (by omega) (by omega), e9 0 (by omega) (by omega), e9 1 (by omega) (by omega)]; exact hc c a b
    · rw [e9 4 (by omega) (by omega)] at hi; rw [e9 i (by omega) (by omega)]; exact hz i hi
  rw [ifP_f q4] at h0 ⊢
  by_cases q5 : wordIs b s e wLives
  · rw [ifP_t q5] at h0 ⊢
    refine thn_ok (P := fun O => PW O.2.2.2 ∧ PG O.2.2.2 ∧ (-1 ≤ O.2.2.1 ∧ O.2.2.1 ≤ 999999)) h0 fun k1 h1 => ?_
    have v1 := num_val k1
    generalize (numR b n e 1 5).2.1 = x at *
    dsimp only
    refine ⟨?_, PG_up hg (by omega), hsd⟩
    obtain ⟨h4, h6, h7, h8, hw, hc, hz⟩ := h
    have e9 : ∀ i, i ≠ 8 → up rd 8 x i = rd i := fun i q => up_ne q
    refine ⟨by rw [e9 4 (by omega)]; exact h4, by rw [e9 6 (by omega)]; exact h6, by rw [e9 7 (by omega), e9 6 (by omega)]; exact h7, by rw [up_eq]; omega, RW_same (fun i hi => e9 i (by omega)) hw, fun c a b => ?_, fun i hi => ?_⟩
    · rw [e9 4 (by omega)] at b; rw [e9 (27 + c) (by omega), e9 0 (by omega), e9 1 (by omega)]; exact hc c a b
    · rw [e9 4 (by omega)] at hi; rw [e9 i (by omega)]; exact hz i hi
  rw [ifP_f q5] at h0 ⊢
  by_cases q6 : wordIs b s e wColor
  · rw [ifP_t q6] at h0 ⊢
    obtain ⟨a1, a2, a3⟩ := word_ok h hg (Or.inl rfl) h0
    exact ⟨a1, a2, by rw [a3]; exact hsd⟩
  rw [ifP_f q6] at h0 ⊢
  by_cases q7 : wordIs b s e wRank
  · rw [ifP_t q7] at h0 ⊢
    obtain ⟨a1, a2, a3⟩ := word_ok h hg (Or.inr rfl) h0
    exact ⟨a1, a2, by rw [a3]; exact hsd⟩
  rw [ifP_f q7] at h0 ⊢
  by_cases q8 : wordIs b s e wShuffle
  · rw [ifP_t q8] at h0 ⊢
    refine thn_ok (P := fun O => PW O.2.2.2 ∧ PG O.2.2.2 ∧ (-1 ≤ O.2.2.1 ∧ O.2.2.1 ≤ 999999)) h0 fun k1 h1 => ?_
    have v1 := num_val k1
    exact ⟨h, hg, by dsimp only; omega⟩
  · rw [ifP_f q8] at h0; exact absurd h0 (by unfold bad; dsimp only; omega)
/-- behind all statements -/
def PV (rd : Row) : Prop := PW rd ∧ PG rd ∧ rd 2 * rd 3 ≤ rd 4
theorem numR_at {b : Row} {n a lo hi : Int} (ha : 0 ≤ a ∧ a ≤ n) (h : (numR b n a lo hi).1 = 0) : a ≤ (numR b n a lo hi).2.2 ∧ (numR b n a lo hi).2.2 ≤ n := by
  obtain ⟨s1, s2, s3, s4⟩ := scan_spec (b := b) (n := n) (i := a) (P := isSp) ha nSp
  obtain ⟨u1, u2, u3, u4⟩ := scan_spec (b := b) (n := n) (i := scanT b n isSp a) (P := isDg) (by omega) nDg
  unfold numR at h ⊢
  dsimp only at h ⊢
  by_cases d : isDg (chT b n (scanT b n isSp a))
  · rw [ifP_t d] at h ⊢
    split
    · dsimp only; omega
    · dsimp only; omega
  · rw [ifP_f d] at h; exact absurd h (by dsimp only; omega)
theorem deck_at {b : Row} {n sd : Int} (hb : BB b) (hn : n ≤ 600) {t : Nat} : ∀ {a : Int} {rd : Row}, 0 ≤ a ∧ a ≤ n → PW rd → PG rd → (deckR b n sd t a rd).1 = 0 → a ≤ (deckR b n sd t a rd).2.1 ∧ (deckR b n sd t a rd).2.1 ≤ n := by
  induction t with
  | zero => intro a rd ha h hg _; exact ⟨Int.le_refl _, ha.2⟩
  | succ t ih =>
    intro a rd ha h hg h0
    have hs : deckR b n sd (t + 1) a rd = if (cardR b n a sd rd).1 ≠ 0 then cardR b n a sd rd else ifP (isLo (chT b n (scanT b n isSp (cardR b n a sd rd).2.1))) (deckR b n sd t (scanT b n isSp (cardR b n a sd rd).2.1) (cardR b n a sd rd).2.2.2) (0, scanT b n isSp (cardR b n a sd rd).2.1, sd, (cardR b n a sd rd).2.2.2) := rfl
    rw [hs] at h0 ⊢
    by_cases q : (cardR b n a sd rd).1 = 0
    · rw [if_neg (show ¬ (cardR b n a sd rd).1 ≠ 0 from fun g => g q)] at h0 ⊢
      obtain ⟨c1, c2, c3, c4, c5⟩ := card_ok hb hn ha h hg q
      generalize cardR b n a sd rd = O at *
      obtain ⟨s1, s2, s3, s4⟩ := scan_spec (b := b) (n := n) (i := O.2.1) (P := isSp) (by omega) nSp
      generalize scanT b n isSp O.2.1 = s at *
      by_cases g : isLo (chT b n s)
      · rw [ifP_t g] at h0 ⊢
        have := ih (a := s) (rd := O.2.2.2) (by omega) c1 c2 h0
        omega
      · rw [ifP_f g]; dsimp only; omega
    · rw [if_pos q] at h0; exact absurd h0 q
theorem thn_at {b : Row} {n a lo hi : Int} {f : Int → Int → PO} (ha : 0 ≤ a ∧ a ≤ n) (h : (thn (numR b n a lo hi) f).1 = 0) (g : ∀ x a', (a ≤ a' ∧ a' ≤ n) → (f x a').1 = 0 → a' ≤ (f x a').2.1 ∧ (f x a').2.1 ≤ n) : a ≤ (thn (numR b n a lo hi) f).2.1 ∧ (thn (numR b n a lo hi) f).2.1 ≤ n := by
  unfold thn at h ⊢
  by_cases q : (numR b n a lo hi).1 = 0
  · rw [if_pos q] at h ⊢
    have h1 := numR_at ha q
    have := g _ _ h1 h
    omega
  · rw [if_neg q] at h; exact absurd h q
theorem stat_at {b : Row} {n a stm sd : Int} {rd : Row} (hb : BB b) (hn : n ≤ 600) (ha : 0 ≤ a ∧ a ≤ n) (h : PW rd) (hg : if stm = 0 then PZ rd else PG rd) (h0 : (statR b n a stm sd rd).1 = 0) : a ≤ (statR b n a stm sd rd).2.1 ∧ (statR b n a stm sd rd).2.1 ≤ n := by
  obtain ⟨s1, s2, s3, s4⟩ := scan_spec (b := b) (n := n) (i := a) (P := isSp) ha nSp
  unfold statR at h0 ⊢
  dsimp only at h0 ⊢
  generalize scanT b n isSp a = s at *
  obtain ⟨t1, t2, t3, t4⟩ := scan_spec (b := b) (n := n) (i := s) (P := isLo) (by omega) nLo
  generalize scanT b n isLo s = e at *
  have up : ∀ {x : Int}, e ≤ x ∧ x ≤ n → a ≤ x ∧ x ≤ n := fun hx => by omega
  by_cases q1 : wordIs b s e wGame
  · rw [ifP_t q1] at h0 ⊢
    by_cases q : stm = 0
    · rw [if_pos q] at h0 ⊢
      unfold gameR at h0 ⊢
      exact up (thn_at (by omega) h0 fun x1 a1 g1 k1 => thn_at (by omega) k1 fun x2 a2 g2 k2 => thn_at (by omega) k2 fun x3 a3 g3 k3 => thn_at (by omega) k3 fun x4 a4 g4 k4 => ⟨Int.le_refl _, g4.2⟩)
    · rw [if_neg q] at h0; exact absurd h0 (by unfold bad; dsimp only; omega)
  rw [ifP_f q1] at h0 ⊢
  by_cases q : stm = 0
  · rw [if_pos q] at h0; exact absurd h0 (by unfold bad; dsimp only; omega)
  rw [if_neg q] at h0 ⊢ hg
  by_cases q3 : wordIs b s e wDeck
  · rw [ifP_t q3] at h0 ⊢; exact up (deck_at hb hn (by omega) h hg h0)
  rw [ifP_f q3] at h0 ⊢
  by_cases q4 : wordIs b s e wTokens
  · rw [ifP_t q4] at h0 ⊢; exact up (thn_at (by omega) h0 fun x1 a1 g1 k1 => thn_at (by omega) k1 fun x2 a2 g2 k2 => ⟨Int.le_refl _, g2.2⟩)
  rw [ifP_f q4] at h0 ⊢
  by_cases q5 : wordIs b s e wLives
  · rw [ifP_t q5] at h0 ⊢; exact up (thn_at (by omega) h0 fun x1 a1 g1 k1 => ⟨Int.le_refl _, g1.2⟩)
  rw [ifP_f q5] at h0 ⊢
  by_cases q6 : wordIs b s e wColor
  · rw [ifP_t q6] at h0 ⊢; unfold wordR at h0 ⊢; exact up (thn_at (by omega) h0 fun x1 a1 g1 k1 => thn_at (by omega) k1 fun x2 a2 g2 k2 => ⟨Int.le_refl _, g2.2⟩)
  rw [ifP_f q6] at h0 ⊢
  by_cases q7 : wordIs b s e wRank
  · rw [ifP_t q7] at h0 ⊢; unfold wordR at h0 ⊢; exact up (thn_at (by omega) h0 fun x1 a1 g1 k1 => thn_at (by omega) k1 fun x2 a2 g2 k2 => ⟨Int.le_refl _, g2.2⟩)
  rw [ifP_f q7] at h0 ⊢
  by_cases q8 : wordIs b s e wShuffle
  · rw [ifP_t q8] at h0 ⊢; exact up (thn_at (by omega) h0 fun x1 a1 g1 k1 => ⟨Int.le_refl _, g1.2⟩)
  · rw [ifP_f q8] at h0; exact absurd h0 (by unfold bad; dsimp only; omega)
theorem prog_ok {b : Row} {n : Int} (hb : BB b) (hn : n ≤ 600) {t : Nat} (ht : 0 < t) : ∀ {a stm sd : Int} {rd : Row}, 0 ≤ a ∧ a ≤ n → n - a < t → 0 ≤ stm → PW rd → (if stm = 0 then PZ rd else PG rd) → -1 ≤ sd ∧ sd ≤ 999999 → (progR b n t a stm sd rd).2.1 = 0 → PV (progR b n t a stm sd rd).2.2.2.2 ∧ (-1 ≤ (progR b n t a stm sd rd).2.2.2.1 ∧ (progR b n t a stm sd rd).2.2.2.1 ≤ 999999) := by
  induction t with
  | zero => omega
  | succ t ih =>
    intro a stm sd rd ha hat hstm h hg hsd h0
    rw [progR_succ] at h0 ⊢
    by_cases q : (statR b n a stm sd rd).1 = 0
    · rw [if_neg (show ¬ (statR b n a stm sd rd).1 ≠ 0 from fun g => g q)] at h0 ⊢
      obtain ⟨c1, c2, c3⟩ := stat_ok hb hn ha h hg hsd q
      have c4 := stat_at hb hn ha h hg q
      generalize statR b n a stm sd rd = O at *
      obtain ⟨s1, s2, s3, s4⟩ := scan_spec (b := b) (n := n) (i := O.2.1) (P := isSp) (by omega) nSp
      generalize scanT b n isSp O.2.1 = s at *
      by_cases g1 : chT b n s = -1
      · rw [if_pos g1] at h0 ⊢
        by_cases g2 : O.2.2.2 4 < O.2.2.2 2 * O.2.2.2 3
        · rw [if_pos g2] at h0; exact absurd h0 (by unfold bad; dsimp only; omega)
        · rw [if_neg g2]; exact ⟨⟨c1, c2, Int.not_lt.mp g2⟩, c3⟩
      · rw [if_neg g1] at h0 ⊢
        by_cases g3 : chT b n s = 59
        · rw [if_pos g3] at h0 ⊢
          have hlt : s < n := by
            by_cases g : s < n
            · exact g
            · unfold chT at g1; rw [if_neg g] at g1; omega
          have ht0 : 0 < t := by omega
          exact ih ht0 (by omega) (by omega) (by omega) c1 (by rw [if_neg (by omega)]; exact c2) c3 h0
        · rw [if_neg g3] at h0; exact absurd h0 (by unfold bad; dsimp only; omega)
    · rw [if_pos q] at h0; exact absurd h0 q
theorem draws_at {r : Row} {p j : Int} (h5 : j ≠ 5) (h1 : j ≠ 187 + p) (h2 : j ≠ 191 + 5 * p + r (187 + p)) : drawsR r p j = r j := by
  unfold drawsR
  split
  · rw [up_ne h5, up_ne h1, up_ne h2]
  · rfl
theorem deal_ok {r : Row} (hr : CI r (-1)) {p : Int} (hp : 0 ≤ p ∧ p < r 2) {n : Nat} (hn : r (187 + p) + n ≤ 5) (hd : r 5 + n ≤ r 4) :
    CI (dealN p n r) (-1) ∧ dealN p n r 5 = r 5 + n ∧ dealN p n r (187 + p) = r (187 + p) + n ∧ ∀ j, j ≠ 5 → j ≠ 187 + p → ¬ (191 + 5 * p ≤ j ∧ j < 196 + 5 * p) → dealN p n r j = r j := by
  induction n with
  | zero => exact ⟨hr, by show r 5 = r 5 + 0; omega, by show r (187 + p) = r (187 + p) + 0; omega, fun _ _ _ _ => rfl⟩
  | succ n ih =>
    obtain ⟨i1, i2, i3, i4⟩ := ih (by omega) (by omega)
    have h2 := hr.1.2.2.1
    have hs := hr.2.2.2.2.2.2.2.1 p hp.1 (by omega)
    have e2 := i4 2 (by omega) (by omega) (by omega)
    have e4 := i4 4 (by omega) (by omega) (by omega)
    show CI (drawsR (dealN p n r) p) (-1) ∧ drawsR (dealN p n r) p 5 = r 5 + ((n + 1 : Nat) : Int) ∧ drawsR (dealN p n r) p (187 + p) = r (187 + p) + ((n + 1 : Nat) : Int) ∧ ∀ j, j ≠ 5 → j ≠ 187 + p → ¬ (191 + 5 * p ≤ j ∧ j < 196 + 5 * p) → drawsR (dealN p n r) p j = r j
    generalize dealN p n r = y at *
    refine ⟨CI_draws i1 (by omega) (by omega), ?_, ?_, fun j a b c => ?_⟩
    · unfold drawsR; rw [if_pos (by omega), up_eq]; omega
    · unfold drawsR; rw [if_pos (by omega), up_ne (by omega), up_eq]; omega
    · rw [draws_at a b (by omega)]; exact i4 j a b c
theorem deals_ok {r : Row} (hr : CI r (-1)) (h5 : r 5 = 0) (hsz : ∀ p, 0 ≤ p → p < 4 → r (187 + p) = 0) {hand : Nat} (hh : hand ≤ 5) {n : Nat} (hn : (n : Int) ≤ r 2) (hd : (n : Int) * hand ≤ r 4) :
    CI (dealsN hand n r) (-1) ∧ dealsN hand n r 5 = n * hand ∧ (∀ p, 0 ≤ p → p < 4 → dealsN hand n r (187 + p) = if p < n then (hand : Int) else 0) ∧ ∀ j, (j < 187 ∨ 211 ≤ j) → j ≠ 5 → dealsN hand n r j = r j := by
  have h2 := hr.1.2.2.1
  induction n with
  | zero => exact ⟨hr, by show r 5 = _; omega, fun p a b => by show r (187 + p) = _; rw [if_neg (by omega)]; exact hsz p a b, fun _ _ _ => rfl⟩
  | succ n ih =>
    have e1 : ((n + 1 : Nat) : Int) * hand = n * hand + hand := by rw [Int.natCast_add, Int.add_mul]; simp
    obtain ⟨i1, i2, i3, i4⟩ := ih (by omega) (by omega)
    have e2 := i4 2 (by omega) (by omega)
    have e4 := i4 4 (by omega) (by omega)
    have e3 := i3 n (by omega) (by omega)
    rw [if_neg (by omega)] at e3
    show CI (dealN n hand (dealsN hand n r)) (-1) ∧ dealN n hand (dealsN hand n r) 5 = ((n + 1 : Nat) : Int) * hand ∧ (∀ p, 0 ≤ p → p < 4 → dealN n hand (dealsN hand n r) (187 + p) = if p < ((n + 1 : Nat) : Int) then (hand : Int) else 0) ∧ ∀ j, (j < 187 ∨ 211 ≤ j) → j ≠ 5 → dealN n hand (dealsN hand n r) j = r j
    generalize dealsN hand n r = y at *
    obtain ⟨d1, d2, d3, d4⟩ := deal_ok i1 (p := n) (by omega) (n := hand) (by omega) (by omega)
    refine ⟨d1, by omega, fun p a b => ?_, fun j a b => ?_⟩
    · by_cases q : p = n
      · subst q; rw [d3, e3, if_pos (by omega)]; omega
      · rw [d4 (187 + p) (by omega) (by omega) (by omega), i3 p a b]
        by_cases q2 : p < n
        · rw [if_pos q2, if_pos (by omega)]
        · rw [if_neg q2, if_neg (by omega)]
    · rw [d4 j b (by omega) (by omega)]; exact i4 j a b
theorem shuf_kinds {sd : Int} {r : Row} (h4 : 0 ≤ r 4 ∧ r 4 ≤ 40) {P : Int → Prop} (h : ∀ c, 0 ≤ c → c < r 4 → P (r (27 + c))) : ∀ c, 0 ≤ c → c < r 4 → P (shufR sd r (27 + c)) := by
  intro c a b
  unfold shufR
  split
  · exact h c a b
  · exact shuf_all (k := (r 4 - 1).toNat) (fun c a b => h c a (by omega)) c a (by omega)
/-- the row ahead of the dealing -/
theorem CI_begin {rd : Row} (h : PV rd) {sd : Int} : CI (fullS (up (shufR sd rd) 9 (-1))) (-1) ∧ (∀ j, 0 ≤ j → (j < 27 ∨ 147 ≤ j) → j ≠ 9 → j < 358 → fullS (up (shufR sd rd) 9 (-1)) j = rd j) ∧ fullS (up (shufR sd rd) 9 (-1)) 9 = -1 := by
  obtain ⟨⟨p4, p6, p7, p8, hw, hc, hz⟩, ⟨g0, g1, g2, g3⟩, hd⟩ := h
  have hm2 : (2 : Int) * 1 ≤ rd 2 * rd 3 := Int.mul_le_mul g2.1 g3.1 (by omega) (by omega)
  have es : ∀ j, (j < 27 ∨ 67 ≤ j) → shufR sd rd j = rd j := fun j hj => shufR_at p4 hj
  have e : ∀ j, (j < 67 ∨ 147 ≤ j) → j ≠ 9 → fullS (up (shufR sd rd) 9 (-1)) j = shufR sd rd j := fun j hj h9 => by
    unfold fullS; rw [if_neg (by omega), if_neg (by omega), up_ne h9]
  have e9 : ∀ j, (j < 27 ∨ 147 ≤ j) → j ≠ 9 → fullS (up (shufR sd rd) 9 (-1)) j = rd j := fun j hj h9 => (e j (by omega) h9).trans (es j (by omega))
  have ec : ∀ c, 0 ≤ c → c < 40 → fullS (up (shufR sd rd) 9 (-1)) (67 + c) = 2 ^ (rd 0).toNat - 1 := fun c a b => by
    unfold fullS; rw [if_pos (by omega), up_ne (by omega), es 0 (by omega)]
  have er : ∀ c, 0 ≤ c → c < 40 → fullS (up (shufR sd rd) 9 (-1)) (107 + c) = 2 ^ (rd 1).toNat - 1 := fun c a b => by
    unfold fullS; rw [if_neg (by omega), if_pos (by omega), up_ne (by omega), es 1 (by omega)]
  have hk : ∀ c, 0 ≤ c → c < rd 4 → 0 ≤ shufR sd rd (27 + c) ∧ colR (shufR sd rd (27 + c)) < rd 0 ∧ rnkR (shufR sd rd (27 + c)) ≤ rd 1 := shuf_kinds p4 (P := fun v => 0 ≤ v ∧ colR v < rd 0 ∧ rnkR v ≤ rd 1) hc
  have hk0 : ∀ c, rd 4 ≤ c → c < 40 → shufR sd rd (27 + c) = 0 := fun c a b => by
    have : shufR sd rd (27 + c) = rd (27 + c) := by
      unfold shufR
      split
      · rfl
      · exact shuf_at (by omega)
    rw [this]; exact hz _ (by omega)
  have b0 := pow2_bd (k := rd 0) (by omega)
  have b1 : 1 ≤ (2 : Int) ^ (rd 1).toNat ∧ (2 : Int) ^ (rd 1).toNat ≤ 32 := by
    by_cases q : rd 1 = 5
    · rw [q]; decide
    · have := pow2_bd (k := rd 1) (by omega); omega
  have x0 := e9 0 (by omega) (by omega)
  have x1 := e9 1 (by omega) (by omega)
  have x2 := e9 2 (by omega) (by omega)
  have x4 := e9 4 (by omega) (by omega)
  have x5 := (e9 5 (by omega) (by omega)).trans (hz 5 (by omega))
  refine ⟨⟨by omega, fun c a b => ?_, fun c a b => ?_, fun c a b => ?_, fun k a b => ?_, fun c a b => ?_, RW_same (fun j hj => e9 j (by omega) (by omega)) hw, fun p a b => ?_, fun p k a b c d => ?_, fun p k a b c d => ?_, fun p k q j a b c d => ?_, fun k a b => ?_, fun c a b => ?_⟩, fun j _ hj h9 _ => e9 j hj h9, ?_⟩
  · rw [e9 (14 + c) (by omega) (by omega), hz (14 + c) (by omega), x0, x1]; omega
  · rw [e (27 + c) (by omega) (by omega)]
    by_cases q : c < rd 4
    · have := hk c a q
      refine ⟨this.1, ?_⟩
      unfold colR at this; omega
    · rw [hk0 c (by omega) b]; exact ⟨Int.le_refl _, by decide⟩
  · rw [x4] at b; rw [e (27 + c) (by omega) (by omega), x0, x1]; exact (hk c a b).2
  · rw [e9 (211 + k) (by omega) (by omega), hz (211 + k) (by omega)]; omega
  · rw [ec c a b, er c a b, e9 (147 + c) (by omega) (by omega), hz (147 + c) (by omega)]; omega
  · rw [e9 (187 + p) (by omega) (by omega), hz (187 + p) (by omega)]; omega
  · rw [e9 (191 + 5 * p + k) (by omega) (by omega), hz (191 + 5 * p + k) (by omega)]; omega
  · rw [e9 (187 + p) (by omega) (by omega), hz (187 + p) (by omega)] at d; omega
  · rw [e9 (187 + p) (by omega) (by omega), hz (187 + p) (by omega)] at d; omega
  · have hcb := col_bd ⟨a, b⟩
    have hrb := rnk_bd ⟨a, b⟩
    unfold drawnOf inHands inHandOf
    rw [x5, su_self, e9 (211 + k) (by omega) (by omega), hz (211 + k) (by omega), e9 (14 + colR k) (by omega) (by omega), hz (14 + colR k) (by omega), if_neg (by omega), if_neg (by omega)]
    have : su 0 (fullS (up (shufR sd rd) 9 (-1)) 2) (fun p => if p = -1 then 0 else su 0 (fullS (up (shufR sd rd) 9 (-1)) (187 + p)) (fun j => if fullS (up (shufR sd rd) 9 (-1)) (27 + fullS (up (shufR sd rd) 9 (-1)) (191 + 5 * p + j)) = k then 1 else 0)) = su 0 (fullS (up (shufR sd rd) 9 (-1)) 2) (fun _ => 0) := su_congr fun p a b => by
      rw [if_neg (by omega), e9 (187 + p) (by omega) (by omega), hz (187 + p) (by omega), su_self]
    rw [this]
    have z0 : ∀ n : Int, su 0 n (fun _ => 0) = 0 := fun n => by
      unfold su
      generalize (n - 0).toNat = m
      induction m with
      | zero => rfl
      | succ m ih => show sm m _ + 0 = 0; rw [ih]; rfl
    rw [z0]; rfl
  · rw [x5] at a; rw [x4] at b
    rw [ec c a (by omega), er c a (by omega), e9 (147 + c) (by omega) (by omega), hz (147 + c) (by omega), x0, x1]
    exact ⟨rfl, rfl, rfl⟩
  · unfold fullS; rw [if_neg (by omega), if_neg (by omega), up_eq]
theorem GI_begin {rd : Row} (h : PV rd) {sd : Int} : GI (beginR sd rd) ∧ beginR sd rd 4 = rd 4 := by
  obtain ⟨c1, c2, c9⟩ := CI_begin h (sd := sd)
  obtain ⟨⟨p4, p6, p7, p8, hw, hc, hz⟩, ⟨g0, g1, g2, g3⟩, hd⟩ := h
  have es : ∀ j, (j < 27 ∨ 67 ≤ j) → shufR sd rd j = rd j := fun j hj => shufR_at p4 hj
  unfold beginR
  dsimp only
  rw [es 3 (by omega), es 2 (by omega)]
  have x2 := c2 2 (by omega) (by omega) (by omega) (by omega)
  have x4 := c2 4 (by omega) (by omega) (by omega) (by omega)
  have x5 := (c2 5 (by omega) (by omega) (by omega) (by omega)).trans (hz 5 (by omega))
  have hmul : ((rd 2).toNat : Int) * ((rd 3).toNat : Int) = rd 2 * rd 3 := by rw [Int.toNat_of_nonneg (by omega), Int.toNat_of_nonneg (by omega)]
  obtain ⟨d1, d2, d3, d4⟩ := deals_ok c1 x5 (fun p a b => (c2 (187 + p) (by omega) (by omega) (by omega) (by omega)).trans (hz _ (by omega))) (hand := (rd 3).toNat) (by omega) (n := (rd 2).toNat) (by omega) (by rw [hmul, x4]; exact hd)
  rw [hmul] at d2
  generalize dealsN (rd 3).toNat (rd 2).toNat (fullS (up (shufR sd rd) 9 (-1))) = Y at *
  have y : ∀ j, 0 ≤ j → j < 27 → j ≠ 5 → j ≠ 9 → Y j = rd j := fun j a b c d => (d4 j (by omega) c).trans (c2 j a (by omega) d (by omega))
  have y9 := (d4 9 (by omega) (by omega)).trans c9
  have y0 := y 0 (by omega) (by omega) (by omega) (by omega)
  have y1 := y 1 (by omega) (by omega) (by omega) (by omega)
  have y2 := y 2 (by omega) (by omega) (by omega) (by omega)
  have y3 := y 3 (by omega) (by omega) (by omega) (by omega)
  have y4 := y 4 (by omega) (by omega) (by omega) (by omega)
  have y6 := y 6 (by omega) (by omega) (by omega) (by omega)
  have y7 := y 7 (by omega) (by omega) (by omega) (by omega)
  have y8 := y 8 (by omega) (by omega) (by omega) (by omega)
  have y10 := (y 10 (by omega) (by omega) (by omega) (by omega)).trans (hz 10 (by omega))
  have y12 := (y 12 (by omega) (by omega) (by omega) (by omega)).trans (hz 12 (by omega))
  have y13 := (y 13 (by omega) (by omega) (by omega) (by omega)).trans (hz 13 (by omega))
  have y14 := (y 14 (by omega) (by omega) (by omega) (by omega)).trans (hz 14 (by omega))
  have hcb := d1.1
  have ov : ∀ r : Row, (∀ j, j ≠ 9 → r j = Y j) → (r 9 = -1 ∨ r 9 = Y 2) → overR r = 0 := fun r hr h9 => by
    have q8 := hr 8 (by omega)
    unfold overR
    rw [if_neg (by omega), ifP_f (fun q => by
      have := q 0 (by omega) (by rw [hr 0 (by omega)]; omega)
      rw [hr 1 (by omega), hr (14 + 0) (by omega)] at this
      rw [Int.add_zero] at this
      omega), if_neg (by omega)]
  have sz : ∀ p, 0 ≤ p → p < 4 → Y (187 + p) = if p < rd 2 then rd 3 else 0 := fun p a b => by
    rw [d3 p a b]
    by_cases q : p < rd 2
    · rw [if_pos (by omega), if_pos q]; omega
    · rw [if_neg (by omega), if_neg q]
  by_cases q : Y 5 = Y 4
  · rw [if_pos q]
    have u : ∀ j, j ≠ 9 → up Y 9 (Y 2) j = Y j := fun j hj => up_ne hj
    have u9 : up Y 9 (Y 2) 9 = Y 2 := up_eq
    have u0 := u 0 (by omega)
    have u1 := u 1 (by omega)
    have u2 := u 2 (by omega)
    have u3 := u 3 (by omega)
    have u4 := u 4 (by omega)
    have u5 := u 5 (by omega)
    have u6 := u 6 (by omega)
    have u7 := u 7 (by omega)
    have u8 := u 8 (by omega)
    have u10 := u 10 (by omega)
    have u12 := u 12 (by omega)
    have u13 := u 13 (by omega)
    have hph : Phi (up Y 9 (Y 2)) = Y 2 := by unfold Phi; rw [u9, if_neg (by omega)]
    refine ⟨⟨CI_same (fun j hj => u j (by omega)) d1, by omega, by omega, by omega, by omega, by omega, by rw [u12, u2, if_neg (by omega), ov _ u (Or.inr u9)]; omega, by omega, fun _ g => by omega, fun _ => by omega, fun _ g => by omega, fun p a b => ?_⟩, by omega⟩
    rw [u _ (by omega), sz p a b, u3]; split <;> omega
  · rw [if_neg q]
    have hph : Phi Y = 2 * (Y 4 - Y 5) + Y 7 + Y 2 + 1 := by unfold Phi; rw [if_pos y9]
    refine ⟨⟨d1, by omega, by omega, by omega, by omega, by omega, by rw [y12, if_neg (by omega), ov _ (fun _ _ => rfl) (Or.inl y9)], by omega, fun _ g => by omega, fun _ => by omega, fun _ g p a b => ?_, fun p a b => ?_⟩, by omega⟩
    · rw [sz p a (by omega), if_pos (by omega)]; omega
    · rw [sz p a b]; split <;> omega
