/-! LAYER 2: the history in a row: who was begun with when; who passed whom. No heap here. -/
theorem upI_eq {f : Int → Int} {i v : Int} : upI f i v i = v := if_pos rfl
theorem upI_ne {f : Int → Int} {i v j : Int} (h : j ≠ i) : upI f i v j = f j := if_neg h
/-- one person's history; t1: he has come iff his second is less -/
def PI (q e : Int → Int) (p t1 : Int) : Prop := (0 ≤ e (12 + 8 * p + 0) ∧ e (12 + 8 * p + 0) ≤ 5) ∧ (e (12 + 8 * p + 0) = 0 → e (12 + 8 * p + 4) = -2 ∧ e (12 + 8 * p + 7) = -2 ∧ t1 ≤ q (7 * p + 2)) ∧ (e (12 + 8 * p + 0) = 1 → e (12 + 8 * p + 4) = -2 ∧ e (12 + 8 * p + 7) = -2 ∧ q (7 * p + 2) < t1) ∧ (e (12 + 8 * p + 0) = 2 → e (12 + 8 * p + 4) ≠ -2 ∧ e (12 + 8 * p + 7) = -2 ∧ q (7 * p + 2) ≤ e (12 + 8 * p + 4) ∧ 0 ≤ e (12 + 8 * p + 6)) ∧ (3 ≤ e (12 + 8 * p + 0) → e (12 + 8 * p + 4) = -2 ∧ e (12 + 8 * p + 7) ≠ -2 ∧ q (7 * p + 2) ≤ e (12 + 8 * p + 7) ∧ e (12 + 8 * p + 7) ≤ e 0) ∧ (e (12 + 8 * p + 0) ≠ 2 → e (12 + 8 * p + 6) = -2)
theorem PI.does {q e : Int → Int} {p t1 : Int} (H : PI q e p t1) : 0 ≤ e (12 + 8 * p + 0) ∧ e (12 + 8 * p + 0) ≤ 5 := H.1
theorem PI.away {q e : Int → Int} {p t1 : Int} (H : PI q e p t1) : e (12 + 8 * p + 0) = 0 → e (12 + 8 * p + 4) = -2 ∧ e (12 + 8 * p + 7) = -2 ∧ t1 ≤ q (7 * p + 2) := H.2.1
theorem PI.wait {q e : Int → Int} {p t1 : Int} (H : PI q e p t1) : e (12 + 8 * p + 0) = 1 → e (12 + 8 * p + 4) = -2 ∧ e (12 + 8 * p + 7) = -2 ∧ q (7 * p + 2) < t1 := H.2.2.1
theorem PI.bgn {q e : Int → Int} {p t1 : Int} (H : PI q e p t1) : e (12 + 8 * p + 0) = 2 → e (12 + 8 * p + 4) ≠ -2 ∧ e (12 + 8 * p + 7) = -2 ∧ q (7 * p + 2) ≤ e (12 + 8 * p + 4) ∧ 0 ≤ e (12 + 8 * p + 6) := H.2.2.2.1
theorem PI.fin {q e : Int → Int} {p t1 : Int} (H : PI q e p t1) : 3 ≤ e (12 + 8 * p + 0) → e (12 + 8 * p + 4) = -2 ∧ e (12 + 8 * p + 7) ≠ -2 ∧ q (7 * p + 2) ≤ e (12 + 8 * p + 7) ∧ e (12 + 8 * p + 7) ≤ e 0 := H.2.2.2.2.1
theorem PI.whom {q e : Int → Int} {p t1 : Int} (H : PI q e p t1) : e (12 + 8 * p + 0) ≠ 2 → e (12 + 8 * p + 6) = -2 := H.2.2.2.2.2
/-- who were begun with, all before tb -/
def WI (e : Int → Int) (n : Nat) (tb : Int) : Prop := (0 ≤ e 1 ∧ e 1 ≤ 10) ∧ (∀ k : Int, 0 ≤ k → k < e 1 → 0 ≤ e (2 + k) ∧ e (2 + k) < n) ∧ (∀ k : Int, 0 ≤ k → k < e 1 → e (12 + 8 * e (2 + k) + 0) = 2 ∧ e (12 + 8 * e (2 + k) + 4) < tb) ∧ (∀ p : Int, 0 ≤ p → p < n → e (12 + 8 * p + 0) = 2 → ∃ k : Int, 0 ≤ k ∧ k < e 1 ∧ e (2 + k) = p) ∧ (∀ s : Int, 0 ≤ s → s < 4 → 0 ≤ e (92 + 4 * s + 3) ∧ e (92 + 4 * s + 3) ≤ n)
theorem WI.num {e : Int → Int} {n : Nat} {tb : Int} (H : WI e n tb) : 0 ≤ e 1 ∧ e 1 ≤ 10 := H.1
theorem WI.rng {e : Int → Int} {n : Nat} {tb : Int} (H : WI e n tb) : ∀ k : Int, 0 ≤ k → k < e 1 → 0 ≤ e (2 + k) ∧ e (2 + k) < n := H.2.1
theorem WI.isb {e : Int → Int} {n : Nat} {tb : Int} (H : WI e n tb) : ∀ k : Int, 0 ≤ k → k < e 1 → e (12 + 8 * e (2 + k) + 0) = 2 ∧ e (12 + 8 * e (2 + k) + 4) < tb := H.2.2.1
theorem WI.all {e : Int → Int} {n : Nat} {tb : Int} (H : WI e n tb) : ∀ p : Int, 0 ≤ p → p < n → e (12 + 8 * p + 0) = 2 → ∃ k : Int, 0 ≤ k ∧ k < e 1 ∧ e (2 + k) = p := H.2.2.2.1
theorem WI.lst {e : Int → Int} {n : Nat} {tb : Int} (H : WI e n tb) : ∀ s : Int, 0 ≤ s → s < 4 → 0 ≤ e (92 + 4 * s + 3) ∧ e (92 + 4 * s + 3) ≤ n := H.2.2.2.2
theorem PI.cg {q e e' : Int → Int} {p t1 : Int} (H : PI q e p t1) (h0 : e' (12 + 8 * p + 0) = e (12 + 8 * p + 0)) (h4 : e' (12 + 8 * p + 4) = e (12 + 8 * p + 4)) (h6 : e' (12 + 8 * p + 6) = e (12 + 8 * p + 6)) (h7 : e' (12 + 8 * p + 7) = e (12 + 8 * p + 7)) (ht : e 0 ≤ e' 0) : PI q e' p t1 := by
  obtain ⟨a, b, c, d, f, g⟩ := H
  unfold PI
  rw [h0, h4, h6, h7]
  refine ⟨a, b, c, d, fun z => ?_, g⟩
  have := f z
  omega
/-! what stays -/
theorem stK_keep {e e' : Int → Int} {p : Int} : ∀ k : Nat, (∀ j : Nat, j < k → e' (2 + j) = e (2 + j)) → stK e' p k = stK e p k
  | 0, _ => rfl
  | k + 1, h => by
    simp only [stK]
    rw [stK_keep k (fun j hj => h j (by omega)), h k (by omega)]
theorem pasN_keep {q e e' : Int → Int} {p : Int} : ∀ k : Nat, (∀ j : Nat, j < k → e' (2 + j) = e (2 + j)) → (∀ j : Nat, j < k → (pasT q e' p (e (2 + j)) ↔ pasT q e p (e (2 + j)))) → pasN q e' p k = pasN q e p k
  | 0, _, _ => rfl
  | k + 1, h, h2 => by
    have ih := pasN_keep (q := q) (p := p) k (fun j hj => h j (by omega)) (fun j hj => h2 j (by omega))
    have e1 := h k (by omega)
    have e2 := h2 k (by omega)
    by_cases c : pasT q e p (e (2 + k))
    · rw [show pasN q e p (k + 1) = bOr (pasN q e p k) (bShl 1 (e (2 + k))) from if_pos c]
      show (if pasT q e' p (e' (2 + k)) then bOr (pasN q e' p k) (bShl 1 (e' (2 + k))) else pasN q e' p k) = _
      rw [e1, if_pos (e2.mpr c), ih]
    · rw [show pasN q e p (k + 1) = pasN q e p k from if_neg c]
      show (if pasT q e' p (e' (2 + k)) then bOr (pasN q e' p k) (bShl 1 (e' (2 + k))) else pasN q e' p k) = _
      rw [e1, if_neg (fun z => c (e2.mp z)), ih]
theorem stK_out {e : Int → Int} {p : Int} : ∀ k : Nat, (∀ j : Nat, j < k → e (2 + j) ≠ p) → stK e p k = k
  | 0, _ => rfl
  | k + 1, h => by
    have ih := stK_out k (fun j hj => h j (by omega))
    exact if_pos ⟨ih, h k (by omega)⟩
/-- a change that leaves the list and the times of the begun; p may have ended behind them all -/
theorem pasF_keep {q e e' : Int → Int} {n : Nat} {p tb : Int} (W : WI e n tb) (h1 : e' 1 = e 1) (h2 : ∀ k : Int, 0 ≤ k → k < e 1 → e' (2 + k) = e (2 + k)) (h3 : ∀ k : Int, 0 ≤ k → k < e 1 → e' (12 + 8 * e (2 + k) + 4) = e (12 + 8 * e (2 + k) + 4))
    (h4 : e' (12 + 8 * p + 7) = e (12 + 8 * p + 7) ∨ (e (12 + 8 * p + 7) = -2 ∧ tb ≤ e' (12 + 8 * p + 7))) : pasF q e' p = pasF q e p := by
  have n1 := W.num
  have l1 := (stK_le e p (e 1).toNat).1
  unfold pasF
  rw [h1, stK_keep (e 1).toNat (fun j hj => h2 j (by omega) (by omega))]
  refine pasN_keep _ (fun j hj => h2 j (by omega) (by omega)) (fun j hj => ?_)
  have e3 := h3 j (by omega) (by omega)
  have e4 := (W.isb j (by omega) (by omega)).2
  unfold pasT
  rw [e3]
  rcases h4 with h4 | ⟨h4, h5⟩
  · rw [h4]
  · rw [h4]
    refine ⟨fun z => ⟨z.1, z.2.1, fun w => w.1 rfl⟩, fun z => ⟨z.1, z.2.1, fun w => ?_⟩⟩
    omega
/-! its bits -/
theorem pasN_hb {q e : Int → Int} {p : Int} : ∀ k : Nat, (∀ j : Nat, j < k → 0 ≤ e (2 + j) ∧ e (2 + j) < 10) → ∀ x : Nat, x < 32 → hb (pasN q e p k) x = true → ∃ j : Nat, j < k ∧ e (2 + j) = x
  | 0, _, x, _, hx => by
    rw [show pasN q e p 0 = 0 from rfl, hb_0] at hx
    exact absurd hx (by decide)
  | k + 1, h, x, hx, hb1 => by
    have ih := pasN_hb (q := q) (p := p) k (fun j hj => h j (by omega)) x hx
    by_cases c : pasT q e p (e (2 + k))
    · rw [show pasN q e p (k + 1) = bOr (pasN q e p k) (bShl 1 (e (2 + k))) from if_pos c] at hb1
      have w := h k (by omega)
      have ew : e (2 + k) = (((e (2 + k)).toNat : Nat) : Int) := by omega
      rw [ew, hb_or _ (by omega) hx] at hb1
      by_cases z : x = (e (2 + k)).toNat
      · exact ⟨k, by omega, by omega⟩
      · simp only [z, decide_false, Bool.or_false] at hb1
        obtain ⟨j, j1, j2⟩ := ih hb1
        exact ⟨j, by omega, j2⟩
    · rw [show pasN q e p (k + 1) = pasN q e p k from if_neg c] at hb1
      obtain ⟨j, j1, j2⟩ := ih hb1
      exact ⟨j, by omega, j2⟩
theorem hb_eq1 (x : Int) {k : Nat} (hk : k < 32) : bAnd (bShr x k) 1 = 1 ↔ hb x k = true := by
  rw [hb_eq x hk]
  cases hb x k <;> simp
theorem pusN_keep {q e e' : Int → Int} {p : Int} : ∀ n : Nat, (∀ j : Nat, j < n → (bAnd (bShr (pasF q e' j) p) 1 = 1 ↔ bAnd (bShr (pasF q e j) p) 1 = 1)) → pusN q e' p n = pusN q e p n
  | 0, _ => rfl
  | n + 1, h => by
    have ih := pusN_keep (q := q) (p := p) n (fun j hj => h j (by omega))
    have e1 := h n (by omega)
    by_cases c : (n : Int) ≠ p ∧ behind q p n ∧ bAnd (bShr (pasF q e n) p) 1 = 1
    · rw [show pusN q e p (n + 1) = bOr (pusN q e p n) (bShl 1 n) from if_pos c, show pusN q e' p (n + 1) = bOr (pusN q e' p n) (bShl 1 n) from if_pos ⟨c.1, c.2.1, e1.mpr c.2.2⟩, ih]
    · rw [show pusN q e p (n + 1) = pusN q e p n from if_neg c, show pusN q e' p (n + 1) = pusN q e' p n from if_neg (fun z => c ⟨z.1, z.2.1, e1.mp z.2.2⟩), ih]
theorem pusF_keep {q e e' : Int → Int} {n : Nat} {p : Int} (h4 : e' (12 + 8 * p + 4) = e (12 + 8 * p + 4)) (h : ∀ j : Nat, j < n → pasF q e' j = pasF q e j) : pusF q e' n p = pusF q e n p := by
  unfold pusF
  rw [h4, pusN_keep (q := q) (e := e) (e' := e') (p := p) n (fun j hj => by rw [h j hj])]
/-! a begin -/
theorem bgnR_p {row : Int → Int} {s hand p0 done : Int} (hs : 0 ≤ s ∧ s < 4) (hh : 1 ≤ hand ∧ hand ≤ 2) (hp : 0 ≤ p0 ∧ p0 < 10) (h1 : 0 ≤ row 1 ∧ row 1 < 10) {p o : Int} (hq : 0 ≤ p ∧ p < 10) (ho : 0 ≤ o ∧ o < 8) (hne : p ≠ p0 ∨ (o ≠ 0 ∧ o ≠ 4 ∧ o ≠ 5 ∧ o ≠ 6)) : bgnR row s hand p0 done (12 + 8 * p + o) = row (12 + 8 * p + o) := by
  unfold bgnR
  rw [if_neg (by omega), if_neg (by omega), if_neg (by omega), if_neg (by omega), if_neg (by omega), if_neg (by omega), if_neg (by omega), if_neg (by omega), if_neg (by omega)]
theorem bgnR_4 {row : Int → Int} {s hand p0 done : Int} (hs : 0 ≤ s ∧ s < 4) (hh : 1 ≤ hand ∧ hand ≤ 2) (hp : 0 ≤ p0 ∧ p0 < 10) (h1 : 0 ≤ row 1 ∧ row 1 < 10) : bgnR row s hand p0 done (12 + 8 * p0 + 4) = row 0 ∧ bgnR row s hand p0 done (12 + 8 * p0 + 5) = done ∧ bgnR row s hand p0 done (12 + 8 * p0 + 6) = s ∧ bgnR row s hand p0 done (12 + 8 * p0 + 0) = 2 := by
  unfold bgnR
  refine ⟨?_, ?_, ?_, ?_⟩
  · rw [if_neg (by omega), if_neg (by omega), if_neg (by omega), if_neg (by omega), if_neg (by omega), if_neg (by omega), if_neg (by omega), if_pos rfl]
  · rw [if_neg (by omega), if_neg (by omega), if_neg (by omega), if_neg (by omega), if_neg (by omega), if_neg (by omega), if_pos rfl]
  · rw [if_neg (by omega), if_neg (by omega), if_neg (by omega), if_neg (by omega), if_neg (by omega), if_pos rfl]
  · rw [if_neg (by omega), if_neg (by omega), if_neg (by omega), if_neg (by omega), if_neg (by omega), if_neg (by omega), if_neg (by omega), if_neg (by omega), if_pos rfl]
theorem bgnR_w {row : Int → Int} {s hand p0 done : Int} (hs : 0 ≤ s ∧ s < 4) (hh : 1 ≤ hand ∧ hand ≤ 2) (hp : 0 ≤ p0 ∧ p0 < 10) (h1 : 0 ≤ row 1 ∧ row 1 < 10) {k : Int} (hk : 0 ≤ k ∧ k < 10) : bgnR row s hand p0 done (2 + k) = if k = row 1 then p0 else row (2 + k) := by
  unfold bgnR
  rw [if_neg (by omega)]
  by_cases e : k = row 1
  · rw [if_pos (by omega), if_pos e]
  · rw [if_neg (by omega), if_neg e, if_neg (by omega), if_neg (by omega), if_neg (by omega), if_neg (by omega), if_neg (by omega), if_neg (by omega), if_neg (by omega)]
theorem bgnR_s {row : Int → Int} {s hand p0 done : Int} (hs : 0 ≤ s ∧ s < 4) (hh : 1 ≤ hand ∧ hand ≤ 2) (hp : 0 ≤ p0 ∧ p0 < 10) (h1 : 0 ≤ row 1 ∧ row 1 < 10) {x : Int} (hx : 0 ≤ x ∧ x < 4) : bgnR row s hand p0 done (92 + 4 * x) = (if x = s then row (12 + 8 * p0 + 1) else row (92 + 4 * x)) ∧ bgnR row s hand p0 done (92 + 4 * x + 3) = (if x = s then p0 + 1 else row (92 + 4 * x + 3)) := by
  unfold bgnR
  refine ⟨?_, ?_⟩
  · rw [if_neg (by omega), if_neg (by omega), if_neg (by omega), if_neg (by omega)]
    by_cases e : x = s
    · rw [if_pos (by omega), if_pos e]
    · rw [if_neg (by omega), if_neg e, if_neg (by omega), if_neg (by omega), if_neg (by omega), if_neg (by omega)]
  · rw [if_neg (by omega), if_neg (by omega)]
    by_cases e : x = s
    · rw [if_pos (by omega), if_pos e]
    · rw [if_neg (by omega), if_neg e, if_neg (by omega), if_neg (by omega), if_neg (by omega), if_neg (by omega), if_neg (by omega), if_neg (by omega)]
/-- whom p pushed, gathered ahead of its begin -/
def puA (q e : Int → Int) (p0 : Int) : Nat → Int
  | 0 => 0
  | j + 1 => if (j : Int) ≠ p0 ∧ e (12 + 8 * j + 0) = 1 ∧ behind q p0 j then bOr (puA q e p0 j) (bShl 1 j) else puA q e p0 j
section HB
variable {q e : Int → Int} {n : Nat} {s hand p0 done : Int}
/-- what p0's begin does to the set of those who passed p -/
theorem pas_bgn (hn : n ≤ 10) (hs : 0 ≤ s ∧ s < 4) (hh : 1 ≤ hand ∧ hand ≤ 2) (hp : 0 ≤ p0 ∧ p0 < n) (hr : e 1 < 10) (hw : e (12 + 8 * p0 + 0) = 1) (P : ∀ p : Int, 0 ≤ p → p < n → PI q e p (e 0 + 1)) (W : WI e n (e 0 + 1)) {p : Int} (h1 : 0 ≤ p) (h2 : p < n) :
    pasF q (bgnR e s hand p0 done) p = if p ≠ p0 ∧ e (12 + 8 * p + 0) = 1 ∧ behind q p0 p then bOr (pasF q e p) (bShl 1 p0) else pasF q e p := by
  have nu := W.num
  have hp10 : 0 ≤ p0 ∧ p0 < 10 := ⟨hp.1, by omega⟩
  have hr' : 0 ≤ e 1 ∧ e 1 < 10 := ⟨nu.1, hr⟩
  have e1 : bgnR e s hand p0 done 1 = e 1 + 1 := if_pos rfl
  have ew : ∀ j : Nat, j < (e 1).toNat → bgnR e s hand p0 done (2 + j) = e (2 + j) := fun j hj => by
    rw [bgnR_w hs hh hp10 hr' ⟨by omega, by omega⟩, if_neg (by omega)]
  have ek : bgnR e s hand p0 done (2 + (e 1).toNat) = p0 := by
    rw [bgnR_w hs hh hp10 hr' ⟨by omega, by omega⟩, if_pos (by omega)]
  have en : ((e 1 + 1).toNat) = (e 1).toNat + 1 := by omega
  have e7 : bgnR e s hand p0 done (12 + 8 * p + 7) = e (12 + 8 * p + 7) := bgnR_p hs hh hp10 hr' ⟨h1, by omega⟩ ⟨by omega, by omega⟩ (Or.inr ⟨by omega, by omega, by omega, by omega⟩)
  have e4 : ∀ j : Nat, j < (e 1).toNat → bgnR e s hand p0 done (12 + 8 * e (2 + j) + 4) = e (12 + 8 * e (2 + j) + 4) := fun j hj => by
    have a := W.rng j (by omega) (by omega)
    have b := (W.isb j (by omega) (by omega)).1
    refine bgnR_p hs hh hp10 hr' ⟨by omega, by omega⟩ ⟨by omega, by omega⟩ (Or.inl (fun z => ?_))
    rw [z, hw] at b
    omega
  have kp : ∀ k : Nat, k ≤ (e 1).toNat → pasN q (bgnR e s hand p0 done) p k = pasN q e p k := fun k hk =>
    pasN_keep k (fun j hj => ew j (by omega)) (fun j hj => by unfold pasT; rw [e4 j (by omega), e7])
  have sk : stK (bgnR e s hand p0 done) p (e 1).toNat = stK e p (e 1).toNat := stK_keep _ ew
  have sl := stK_le e p (e 1).toNat
  by_cases ein : stK e p (e 1).toNat = (e 1).toNat
  · have eF : pasF q e p = pasN q e p (e 1).toNat := by unfold pasF; rw [ein]
    by_cases ep : p = p0
    · rw [if_neg (fun z => z.1 ep)]
      have s1 : stK (bgnR e s hand p0 done) p ((e 1).toNat + 1) = (e 1).toNat := by
        show (if stK (bgnR e s hand p0 done) p (e 1).toNat = (e 1).toNat ∧ bgnR e s hand p0 done (2 + (e 1).toNat) ≠ p then (e 1).toNat + 1 else stK (bgnR e s hand p0 done) p (e 1).toNat) = _
        rw [if_neg (fun z => z.2 (by rw [ek, ep])), sk, ein]
      unfold pasF
      rw [e1, en, s1, kp _ (Nat.le_refl _), ein]
    · have s1 : stK (bgnR e s hand p0 done) p ((e 1).toNat + 1) = (e 1).toNat + 1 := by
        show (if stK (bgnR e s hand p0 done) p (e 1).toNat = (e 1).toNat ∧ bgnR e s hand p0 done (2 + (e 1).toNat) ≠ p then (e 1).toNat + 1 else stK (bgnR e s hand p0 done) p (e 1).toNat) = _
        rw [if_pos ⟨by rw [sk, ein], by rw [ek]; exact fun z => ep z.symm⟩]
      have f1 : pasF q (bgnR e s hand p0 done) p = if pasT q (bgnR e s hand p0 done) p p0 then bOr (pasF q e p) (bShl 1 p0) else pasF q e p := by
        rw [eF]
        unfold pasF
        rw [e1, en, s1]
        show (if pasT q (bgnR e s hand p0 done) p (bgnR e s hand p0 done (2 + (e 1).toNat)) then bOr (pasN q (bgnR e s hand p0 done) p (e 1).toNat) (bShl 1 (bgnR e s hand p0 done (2 + (e 1).toNat))) else pasN q (bgnR e s hand p0 done) p (e 1).toNat) = _
        rw [ek, kp _ (Nat.le_refl _)]
      rw [f1]
      have b4 := (bgnR_4 (done := done) hs hh hp10 hr').1
      have key : pasT q (bgnR e s hand p0 done) p p0 ↔ (p ≠ p0 ∧ e (12 + 8 * p + 0) = 1 ∧ behind q p0 p) := by
        have Pp := P p h1 h2
        have d := Pp.does
        unfold pasT
        rw [b4, e7]
        refine ⟨fun z => ⟨ep, ?_, z.1⟩, fun z => ⟨z.2.2, ?_, ?_⟩⟩
        · by_cases d0 : e (12 + 8 * p + 0) = 0
          · have := (Pp.away d0).2.2
            omega
          · by_cases d2 : e (12 + 8 * p + 0) = 2
            · obtain ⟨k, k1, k2, k3⟩ := W.all p h1 h2 d2
              have := sl.2.2 k.toNat (by omega)
              rw [show ((k.toNat : Nat) : Int) = k by omega] at this
              exact absurd k3 this
            · by_cases d3 : 3 ≤ e (12 + 8 * p + 0)
              · have := Pp.fin d3
                exact absurd ⟨this.2.1, this.2.2.2⟩ z.2.2
              · omega
        · have := (Pp.wait z.2.1).2.2
          omega
        · have := (Pp.wait z.2.1).2.1
          exact fun w => w.1 this
      by_cases c : p ≠ p0 ∧ e (12 + 8 * p + 0) = 1 ∧ behind q p0 p
      · rw [if_pos c, if_pos (key.mpr c)]
      · rw [if_neg c, if_neg (fun z => c (key.mp z))]
  · have hin := sl.2.1 (by omega)
    have d2 : e (12 + 8 * p + 0) = 2 := by
      have := (W.isb (stK e p (e 1).toNat : Nat) (by omega) (by omega)).1
      rw [hin] at this
      exact this
    rw [if_neg (fun z => by have := z.2.1; omega)]
    have s1 : stK (bgnR e s hand p0 done) p ((e 1).toNat + 1) = stK e p (e 1).toNat := by
      show (if stK (bgnR e s hand p0 done) p (e 1).toNat = (e 1).toNat ∧ bgnR e s hand p0 done (2 + (e 1).toNat) ≠ p then (e 1).toNat + 1 else stK (bgnR e s hand p0 done) p (e 1).toNat) = _
      rw [if_neg (fun z => ein (by rw [← sk]; exact z.1)), sk]
    unfold pasF
    rw [e1, en, s1]
    exact kp _ sl.1
theorem pas_no (hn : n ≤ 10) (hp : 0 ≤ p0 ∧ p0 < n) (hw : e (12 + 8 * p0 + 0) = 1) {tb : Int} (W : WI e n tb) (p : Int) : ¬ bAnd (bShr (pasF q e p) p0) 1 = 1 := by
  have nu := W.num
  have sl := (stK_le e p (e 1).toNat).1
  have e0 : p0 = ((p0.toNat : Nat) : Int) := by omega
  rw [e0, hb_eq1 _ (by omega)]
  intro z
  obtain ⟨j, j1, j2⟩ := pasN_hb _ (fun j hj => by have := W.rng j (by omega) (by omega); omega) p0.toNat (by omega) z
  have := (W.isb j (by omega) (by omega)).1
  rw [j2, ← e0, hw] at this
  omega
theorem pus_bgn (hn : n ≤ 10) (hs : 0 ≤ s ∧ s < 4) (hh : 1 ≤ hand ∧ hand ≤ 2) (hp : 0 ≤ p0 ∧ p0 < n) (hr : e 1 < 10) (hw : e (12 + 8 * p0 + 0) = 1) (P : ∀ p : Int, 0 ≤ p → p < n → PI q e p (e 0 + 1)) (W : WI e n (e 0 + 1)) (ht : 0 ≤ e 0) :
    pusF q (bgnR e s hand p0 done) n p0 = puA q e p0 n := by
  have nu := W.num
  have hp10 : 0 ≤ p0 ∧ p0 < 10 := ⟨hp.1, by omega⟩
  have hr' : 0 ≤ e 1 ∧ e 1 < 10 := ⟨nu.1, hr⟩
  have b4 := (bgnR_4 (done := done) hs hh hp10 hr').1
  unfold pusF
  rw [b4, if_neg (by omega)]
  have key : ∀ m : Nat, m ≤ n → pusN q (bgnR e s hand p0 done) p0 m = puA q e p0 m := by
    intro m
    induction m with
    | zero => intro _; rfl
    | succ m ih =>
      intro hm
      have ih := ih (by omega)
      have pb := pas_bgn (done := done) hn hs hh hp hr hw P W (p := m) (by omega) (by omega)
      have pn := pas_no hn hp hw W (q := q) (m : Int)
      have iff : ((m : Int) ≠ p0 ∧ behind q p0 m ∧ bAnd (bShr (pasF q (bgnR e s hand p0 done) m) p0) 1 = 1) ↔ ((m : Int) ≠ p0 ∧ e (12 + 8 * (m : Int) + 0) = 1 ∧ behind q p0 m) := by
        rw [pb]
        by_cases c : (m : Int) ≠ p0 ∧ e (12 + 8 * (m : Int) + 0) = 1 ∧ behind q p0 m
        · rw [if_pos c]
          refine ⟨fun _ => c, fun _ => ⟨c.1, c.2.2, ?_⟩⟩
          have e0 : p0 = ((p0.toNat : Nat) : Int) := by omega
          rw [e0, hb_eq1 _ (by omega), hb_or _ (by omega) (by omega)]
          simp
        · rw [if_neg c]
          exact ⟨fun z => absurd z.2.2 pn, fun z => absurd z c⟩
      by_cases c : (m : Int) ≠ p0 ∧ e (12 + 8 * (m : Int) + 0) = 1 ∧ behind q p0 m
      · rw [show puA q e p0 (m + 1) = bOr (puA q e p0 m) (bShl 1 m) from if_pos c, ← ih]
        exact if_pos (iff.mpr c)
      · rw [show puA q e p0 (m + 1) = puA q e p0 m from if_neg c, ← ih]
        exact if_neg (fun z => c (iff.mp z))
  exact key n (Nat.le_refl n)
theorem pus_oth (hn : n ≤ 10) (hs : 0 ≤ s ∧ s < 4) (hh : 1 ≤ hand ∧ hand ≤ 2) (hp : 0 ≤ p0 ∧ p0 < n) (hr : e 1 < 10) (hw : e (12 + 8 * p0 + 0) = 1) (P : ∀ p : Int, 0 ≤ p → p < n → PI q e p (e 0 + 1)) (W : WI e n (e 0 + 1)) {p : Int} (h1 : 0 ≤ p) (h2 : p < n) (hne : p ≠ p0) :
    pusF q (bgnR e s hand p0 done) n p = pusF q e n p := by
  have nu := W.num
  have hp10 : 0 ≤ p0 ∧ p0 < 10 := ⟨hp.1, by omega⟩
  have hr' : 0 ≤ e 1 ∧ e 1 < 10 := ⟨nu.1, hr⟩
  have e4 : bgnR e s hand p0 done (12 + 8 * p + 4) = e (12 + 8 * p + 4) := bgnR_p hs hh hp10 hr' ⟨h1, by omega⟩ ⟨by omega, by omega⟩ (Or.inl hne)
  unfold pusF
  rw [e4, pusN_keep (q := q) (e := e) (e' := bgnR e s hand p0 done) (p := p) n (fun j hj => ?_)]
  have pb := pas_bgn (done := done) hn hs hh hp hr hw P W (p := j) (by omega) (by omega)
  rw [pb]
  have e0 : p = ((p.toNat : Nat) : Int) := by omega
  have e9 : p0 = ((p0.toNat : Nat) : Int) := by omega
  split
  · rw [e0, e9, hb_eq1 _ (by omega), hb_eq1 _ (by omega), hb_or _ (by omega) (by omega)]
    have : p.toNat ≠ p0.toNat := by omega
    simp [this]
  · exact Iff.rfl
theorem WI.bgn (hn : n ≤ 10) (hs : 0 ≤ s ∧ s < 4) (hh : 1 ≤ hand ∧ hand ≤ 2) (hp : 0 ≤ p0 ∧ p0 < n) (hr : e 1 < 10) (hw : e (12 + 8 * p0 + 0) = 1) (W : WI e n (e 0 + 1)) : WI (bgnR e s hand p0 done) n (e 0 + 1) := by
  have nu := W.num
  have hp10 : 0 ≤ p0 ∧ p0 < 10 := ⟨hp.1, by omega⟩
  have hr' : 0 ≤ e 1 ∧ e 1 < 10 := ⟨nu.1, hr⟩
  have e1 : bgnR e s hand p0 done 1 = e 1 + 1 := if_pos rfl
  have b4 := bgnR_4 (done := done) hs hh hp10 hr'
  have who : ∀ k : Int, 0 ≤ k → k < e 1 + 1 → bgnR e s hand p0 done (2 + k) = if k = e 1 then p0 else e (2 + k) := fun k k1 k2 => bgnR_w hs hh hp10 hr' ⟨k1, by omega⟩
  refine ⟨by rw [e1]; omega, fun k k1 k2 => ?_, fun k k1 k2 => ?_, fun p p1 p2 hd => ?_, fun x x1 x2 => ?_⟩
  rotate_right
  · rw [(bgnR_s hs hh hp10 hr' ⟨x1, x2⟩).2]
    have := W.lst x x1 x2
    split <;> omega
  · rw [e1] at k2
    rw [who k k1 k2]
    by_cases c : k = e 1
    · rw [if_pos c]; omega
    · rw [if_neg c]; exact W.rng k k1 (by omega)
  · rw [e1] at k2
    rw [who k k1 k2]
    by_cases c : k = e 1
    · rw [if_pos c, b4.1, b4.2.2.2]; omega
    · rw [if_neg c]
      have a := W.rng k k1 (by omega)
      have b := W.isb k k1 (by omega)
      have ne : e (2 + k) ≠ p0 := fun z => by rw [z, hw] at b; omega
      rw [bgnR_p hs hh hp10 hr' ⟨a.1, by omega⟩ ⟨by omega, by omega⟩ (Or.inl ne), bgnR_p hs hh hp10 hr' ⟨a.1, by omega⟩ ⟨by omega, by omega⟩ (Or.inl ne)]
      exact b
  · rw [e1]
    by_cases c : p = p0
    · exact ⟨e 1, nu.1, by omega, by rw [who _ nu.1 (by omega), if_pos rfl, c]⟩
    · rw [bgnR_p hs hh hp10 hr' ⟨p1, by omega⟩ ⟨by omega, by omega⟩ (Or.inl c)] at hd
      obtain ⟨k, k1, k2, k3⟩ := W.all p p1 p2 hd
      exact ⟨k, k1, by omega, by rw [who k k1 (by omega), if_neg (by omega), k3]⟩
theorem PI.bgn0 (hn : n ≤ 10) (hs : 0 ≤ s ∧ s < 4) (hh : 1 ≤ hand ∧ hand ≤ 2) (hp : 0 ≤ p0 ∧ p0 < n) (hr : 0 ≤ e 1 ∧ e 1 < 10) (hw : e (12 + 8 * p0 + 0) = 1) (ht : 0 ≤ e 0) (P : ∀ p : Int, 0 ≤ p → p < n → PI q e p (e 0 + 1)) : ∀ p : Int, 0 ≤ p → p < n → PI q (bgnR e s hand p0 done) p (e 0 + 1) := by
  have hp10 : 0 ≤ p0 ∧ p0 < 10 := ⟨hp.1, by omega⟩
  intro p p1 p2
  have e0 : bgnR e s hand p0 done 0 = e 0 := bgnR_0 hs hh hp10 hr.1
  by_cases c : p = p0
  · subst c
    obtain ⟨b4, b5, b6, b0⟩ := bgnR_4 (done := done) hs hh hp10 hr
    have b7 : bgnR e s hand p done (12 + 8 * p + 7) = e (12 + 8 * p + 7) := bgnR_p hs hh hp10 hr ⟨p1, by omega⟩ ⟨by omega, by omega⟩ (Or.inr ⟨by omega, by omega, by omega, by omega⟩)
    have Pp := (P p p1 p2).wait hw
    unfold PI
    rw [b0, b4, b6, b7]
    refine ⟨by omega, fun z => absurd z (by omega), fun z => absurd z (by omega), fun _ => ⟨by omega, Pp.2.1, by omega, hs.1⟩, fun z => absurd z (by omega), fun z => absurd rfl z⟩
  · have k : ∀ o : Int, 0 ≤ o → o < 8 → bgnR e s hand p0 done (12 + 8 * p + o) = e (12 + 8 * p + o) := fun o o1 o2 => bgnR_p hs hh hp10 hr ⟨p1, by omega⟩ ⟨o1, o2⟩ (Or.inl c)
    exact (P p p1 p2).cg (k 0 (by omega) (by omega)) (k 4 (by omega) (by omega)) (k 6 (by omega) (by omega)) (k 7 (by omega) (by omega)) (by omega)
end HB
