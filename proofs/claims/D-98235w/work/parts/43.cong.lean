/-! LAYER 2: an evening looks only at its own staff and people -/
abbrev eqC (cm : Nat) (c c' : Int → Int) : Prop := ∀ j : Int, 0 ≤ j → j < 6 * cm → c j = c' j
abbrev eqQ (q q' : Int → Int) : Prop := ∀ j : Int, 0 ≤ j → j < 70 → q j = q' j
theorem turnF_cg {c c' q q' row : Int → Int} {cm : Nat} {s p : Int} (hc : eqC cm c c') (hq : eqQ q q') (hs : 0 ≤ s ∧ s < cm) (hp : 0 ≤ p ∧ p < 10) : turnF c q row s p = turnF c' q' row s p := by
  unfold turnF
  rw [hc (6 * s + 0) (by omega) (by omega), hq (7 * p + 0) (by omega) (by omega)]
theorem nxN_cg {c c' q q' row : Int → Int} {cm : Nat} {s : Int} (hc : eqC cm c c') (hq : eqQ q q') (hs : 0 ≤ s ∧ s < cm) : ∀ n : Nat, n ≤ 10 → nxN c q row s n = nxN c' q' row s n
  | 0, _ => rfl
  | n + 1, h => by
    have ih := nxN_cg (row := row) hc hq hs n (by omega)
    have hb := nxN_b c q row s n
    have key : nxT c q row s (nxN c q row s n) n ↔ nxT c' q' row s (nxN c' q' row s n) n := by
      rw [← ih]
      have e1 := hc (6 * s + 2) (by omega) (by omega)
      have e2 := hc (6 * s + 3) (by omega) (by omega)
      have e3 := turnF_cg (row := row) (p := n) hc hq hs ⟨by omega, by omega⟩
      have e4 := hq (7 * n + 2) (by omega) (by omega)
      unfold nxT
      rw [e1, e2, e3, e4]
      rcases hb with hb | hb
      · simp [hb]
      · have e5 := turnF_cg (row := row) (p := nxN c q row s n) hc hq hs ⟨by omega, by omega⟩
        have e6 := hq (7 * nxN c q row s n + 2) (by omega) (by omega)
        rw [e5, e6]
    show (if nxT c q row s (nxN c q row s n) n then (n : Int) else nxN c q row s n) = (if nxT c' q' row s (nxN c' q' row s n) n then (n : Int) else nxN c' q' row s n)
    by_cases z : nxT c q row s (nxN c q row s n) n
    · rw [if_pos z, if_pos (key.mp z)]
    · rw [if_neg z, if_neg (fun w => z (key.mpr w)), ih]
theorem doneF_cg {r c c' row : Int → Int} {cm : Nat} {s p : Int} (hc : eqC cm c c') (hs : 0 ≤ s ∧ s < cm) : doneF r c row s p = doneF r c' row s p := by
  unfold doneF
  rw [hc (6 * s + 4) (by omega) (by omega)]
theorem begN_cg {r c c' q q' : Int → Int} {cm n : Nat} {s hand : Int} (hn : n ≤ 10) (hc : eqC cm c c') (hq : eqQ q q') (hs : 0 ≤ s ∧ s < cm) : ∀ (k : Nat) (row : Int → Int) (p : Int), begN r c q n s hand k row p = begN r c' q' n s hand k row p
  | 0, _, _ => rfl
  | k + 1, row, p => by
    show (if p = -2 then row else begN r c q n s hand k (bgnR row s hand p (doneF r c row s p)) (if doneF r c row s p ≤ row 0 then nxN c q (bgnR row s hand p (doneF r c row s p)) s n else -2)) =
      (if p = -2 then row else begN r c' q' n s hand k (bgnR row s hand p (doneF r c' row s p)) (if doneF r c' row s p ≤ row 0 then nxN c' q' (bgnR row s hand p (doneF r c' row s p)) s n else -2))
    rw [doneF_cg hc hs, nxN_cg hc hq hs n hn, begN_cg hn hc hq hs k]
theorem hsN_cg {r c c' q q' row : Int → Int} {cm n : Nat} {t s : Int} (hn : n ≤ 10) (hc : eqC cm c c') (hq : eqQ q q') (hs : 0 ≤ s ∧ s < cm) : ∀ j : Nat, hsN r c q n t s row j = hsN r c' q' n t s row j
  | 0 => rfl
  | j + 1 => by
    simp only [hsN]
    rw [hsN_cg hn hc hq hs j, nxN_cg hc hq hs n hn, begN_cg hn hc hq hs]
theorem stN_cg {r c c' q q' row : Int → Int} {cm n : Nat} {t : Int} (hn : n ≤ 10) (hc : eqC cm c c') (hq : eqQ q q') : ∀ s : Nat, s ≤ cm → stN r c q n t row s = stN r c' q' n t row s
  | 0, _ => rfl
  | s + 1, h => by
    simp only [stN]
    rw [stN_cg hn hc hq s (by omega), hc (6 * s + 5) (by omega) (by omega), hsN_cg hn hc hq ⟨by omega, by omega⟩]
theorem psN_cg {q q' row : Int → Int} {t : Int} (hq : eqQ q q') : ∀ n : Nat, n ≤ 10 → psN q t row n = psN q' t row n
  | 0, _ => rfl
  | n + 1, h => by
    simp only [psN]
    rw [psN_cg hq n (by omega)]
    unfold psR arrR
    rw [hq (7 * n + 2) (by omega) (by omega), hq (7 * n + 4) (by omega) (by omega), hq (7 * n + 6) (by omega) (by omega)]
theorem secN_cg {r c c' q q' row : Int → Int} {cm : Nat} (hn : (r 5).toNat ≤ 10) (hc : eqC cm c c') (hq : eqQ q q') : ∀ k : Nat, secN r c q cm k row = secN r c' q' cm k row
  | 0 => rfl
  | k + 1 => by
    simp only [secN]
    rw [secN_cg hn hc hq k]
    unfold secF sec0
    rw [psN_cg hq _ hn, stN_cg hn hc hq cm (Nat.le_refl _)]
theorem evF_cg {r c c' q q' row : Int → Int} {cm : Nat} {bell : Int} (hn : (r 5).toNat ≤ 10) (hc : eqC cm c c') (hq : eqQ q q') : evF r c q cm bell row = evF r c' q' cm bell row := secN_cg hn hc hq _
theorem pasN_cg {q q' e : Int → Int} {p : Int} (hq : eqQ q q') (hp : 0 ≤ p ∧ p < 10) : ∀ k : Nat, (∀ j : Nat, j < k → 0 ≤ e (2 + j) ∧ e (2 + j) < 10) → pasN q e p k = pasN q' e p k
  | 0, _ => rfl
  | k + 1, h => by
    simp only [pasN]
    have hx := h k (by omega)
    rw [pasN_cg hq hp k (fun j hj => h j (by omega))]
    have e1 : pasT q e p (e (2 + k)) ↔ pasT q' e p (e (2 + k)) := by
      unfold pasT behind
      rw [hq (7 * p + 2) (by omega) (by omega), hq (7 * e (2 + k) + 2) (by omega) (by omega)]
    by_cases z : pasT q e p (e (2 + k))
    · rw [if_pos z, if_pos (e1.mp z)]
    · rw [if_neg z, if_neg (fun w => z (e1.mpr w))]
theorem pasF_cg {q q' e : Int → Int} {B p : Int} (hq : eqQ q q') (R : RowOK B e) (hp : 0 ≤ p ∧ p < 10) : pasF q e p = pasF q' e p := by
  have h1 := (stK_le e p (e 1).toNat).1
  have h2 := R.room
  have h3 := R.served
  have h4 := cw_b e
  exact pasN_cg hq hp _ (fun j hj => R.who j (by omega) (by omega))
theorem waitF_cg {q q' e : Int → Int} {bell p : Int} (hq : eqQ q q') (hp : 0 ≤ p ∧ p < 10) : waitF q e bell p = waitF q' e bell p := by
  unfold waitF; rw [hq (7 * p + 2) (by omega) (by omega)]
theorem sumF_cg {r q q' e : Int → Int} {B bell what : Int} (hn : (r 5).toNat ≤ 10) (hq : eqQ q q') (R : RowOK B e) : sumF r q e bell what = sumF r q' e bell what := by
  unfold sumF
  refine sumN_ext _ (fun j hj => ?_)
  unfold sumT
  rw [waitF_cg hq ⟨by omega, by omega⟩, pasF_cg hq R ⟨by omega, by omega⟩]
def crw (r : Int → Int) : Int → Int := fun j => if 0 ≤ j ∧ j < 18 then r (23 + j) else 0
def ppl (r : Int → Int) : Int → Int := fun j => if 0 ≤ j ∧ j < 70 then r (41 + j) else 0
theorem crw_as {r : Int → Int} (HO : HouseOK r) : asC r (crw r) := by
  have w : ∀ n : Int, 0 ≤ n → (0 : Int) ≤ 0 ∧ (0 : Int) ≤ n := fun n h => ⟨Int.le_refl 0, h⟩
  have z : CrewOK (fun _ => 0) := ⟨fun _ _ _ => w 4 (by decide), fun _ _ _ => w 19 (by decide), fun _ _ _ => w 19 (by decide), fun _ _ _ => w 19 (by decide), fun _ _ _ => w 9 (by decide), fun _ _ _ => w 2 (by decide)⟩
  exact asC_cp HO z
theorem ppl_as {r : Int → Int} (HO : HouseOK r) : asP r (ppl r) := asP_cp (q0 := fun _ => 0) HO
theorem eqC_as {r c : Int → Int} (h : asC r c) {cm : Nat} (hc : cm ≤ 3) : eqC cm c (crw r) := fun j h1 h2 => by
  rw [h.2 j h1 (by omega)]; unfold crw; rw [if_pos ⟨h1, by omega⟩]
theorem eqQ_as {r q : Int → Int} (h : asP r q) : eqQ q (ppl r) := fun j h1 h2 => by
  rw [h.2 j h1 h2]; unfold ppl; rw [if_pos ⟨h1, h2⟩]
