/-! LAYER 2: a second goes by, in the twin; an evening -/
def arrR (q row : Int → Int) (t p : Int) : Int → Int := if row (12 + 8 * p + 0) = 0 ∧ q (7 * p + 2) = t then upI row (12 + 8 * p + 0) 1 else row
def psR (q row : Int → Int) (t p : Int) : Int → Int :=
  if arrR q row t p (12 + 8 * p + 0) ≠ 1 then arrR q row t p
  else if 0 ≤ q (7 * p + 6) - 1 ∧ q (7 * p + 6) - 1 ≤ t then upI (upI (upI (arrR q row t p) (12 + 8 * p + 0) 3) (12 + 8 * p + 5) t) (12 + 8 * p + 7) t
  else if q (7 * p + 4) ≤ t - q (7 * p + 2) then upI (upI (arrR q row t p) (12 + 8 * p + 0) 4) (12 + 8 * p + 7) t
  else arrR q row t p
def psN (q : Int → Int) (t : Int) (row : Int → Int) : Nat → (Int → Int)
  | 0 => row
  | j + 1 => psR q (psN q t row j) t j
def hsN (r c q : Int → Int) (n : Nat) (t s : Int) (row : Int → Int) : Nat → (Int → Int)
  | 0 => row
  | j + 1 => if hsN r c q n t s row j (92 + 4 * s + (1 + j)) ≤ t then begN r c q n s (1 + j) 12 (hsN r c q n t s row j) (nxN c q (hsN r c q n t s row j) s n) else hsN r c q n t s row j
def stN (r c q : Int → Int) (n : Nat) (t : Int) (row : Int → Int) : Nat → (Int → Int)
  | 0 => row
  | s + 1 => hsN r c q n t s (stN r c q n t row s) (c (6 * s + 5)).toNat
def sec0 (r c q : Int → Int) (cm : Nat) (row : Int → Int) : Int → Int := stN r c q (r 5).toNat (row 0) (psN q (row 0) row (r 5).toNat) cm
def secF (r c q : Int → Int) (cm : Nat) (row : Int → Int) : Int → Int := upI (sec0 r c q cm row) 0 (row 0 + 1)
def secN (r c q : Int → Int) (cm : Nat) : Nat → (Int → Int) → (Int → Int)
  | 0, row => row
  | k + 1, row => secF r c q cm (secN r c q cm k row)
/-- the evening up to a bell -/
def evF (r c q : Int → Int) (cm : Nat) (bell : Int) (row : Int → Int) : Int → Int := secN r c q cm (bell + 1 - row 0).toNat row
theorem sumN_le {f g : Nat → Int} : ∀ n : Nat, (∀ j, j < n → f j ≤ g j) → sumN f n ≤ sumN g n
  | 0, _ => Int.le_refl _
  | n + 1, e => by
    have := sumN_le n (fun j hj => e j (by omega))
    have := e n (by omega)
    simp only [sumN]; omega
theorem cw_le {a b : Int → Int} (h : ∀ p : Int, 0 ≤ p → p < 10 → (a (12 + 8 * p + 0) = 1 ∨ a (12 + 8 * p + 0) = 0) → (b (12 + 8 * p + 0) = 1 ∨ b (12 + 8 * p + 0) = 0)) : cw a ≤ cw b := by
  unfold cw
  refine sumN_le 10 (fun j hj => ?_)
  have := h j (by omega) (by omega)
  by_cases e : a (12 + 8 * (j : Int) + 0) = 1 ∨ a (12 + 8 * (j : Int) + 0) = 0
  · rw [if_pos e, if_pos (this e)]; exact Int.le_refl _
  · rw [if_neg e]; split <;> omega
/-- a row with some of one person's does, has, ended written -/
theorem RowOK.wr {row row2 : Int → Int} {B t p : Int} (hB : 10000 ≤ B) (R : RowOK B row) (ht : 0 ≤ t ∧ t ≤ 901) (hp : 0 ≤ p ∧ p < 10)
    (e : ∀ j : Int, row2 j = row j ∨ (j = 12 + 8 * p + 0 ∧ 0 ≤ row2 j ∧ row2 j ≤ 5) ∨ (j = 12 + 8 * p + 5 ∧ row2 j = t) ∨ (j = 12 + 8 * p + 7 ∧ row2 j = t))
    (d : row2 (12 + 8 * p + 0) = 1 ∨ row2 (12 + 8 * p + 0) = 0 → row (12 + 8 * p + 0) = 1 ∨ row (12 + 8 * p + 0) = 0) : RowOK B row2 ∧ row2 0 = row 0 ∧ row2 1 = row 1 := by
  have keep : ∀ j : Int, j ≠ 12 + 8 * p + 0 → j ≠ 12 + 8 * p + 5 → j ≠ 12 + 8 * p + 7 → row2 j = row j := fun j h1 h2 h3 => by
    rcases e j with z | ⟨z, -⟩ | ⟨z, -⟩ | ⟨z, -⟩
    · exact z
    all_goals omega
  have k0 := keep 0 (by omega) (by omega) (by omega)
  have k1 := keep 1 (by omega) (by omega) (by omega)
  refine ⟨⟨by rw [k0]; exact R.now, fun j => ?_, fun q q1 q2 => ?_, fun s s1 s2 => ?_, fun s s1 s2 => ?_, by rw [k1]; exact R.served, ?_, fun q q1 q2 => ?_, fun q q1 q2 => ?_, fun j hj => by rw [keep j (by omega) (by omega) (by omega)]; exact R.out j hj⟩, k0, k1⟩
  · have := R.cells j
    rcases e j with z | ⟨-, z1, z2⟩ | ⟨-, z⟩ | ⟨-, z⟩ <;> omega
  · rw [keep _ (by omega) (by omega) (by omega)]; exact R.place q q1 q2
  · rw [keep _ (by omega) (by omega) (by omega)]; exact R.stands s s1 s2
  · rw [keep _ (by omega) (by omega) (by omega)]; exact R.last s s1 s2
  · rw [k1]
    have := cw_le (a := row2) (b := row) (fun q q1 q2 z => by
      by_cases hq : q = p
      · subst hq; exact d z
      · rw [keep _ (by omega) (by omega) (by omega)] at z; exact z)
    have := R.room
    omega
  · rw [keep _ (by omega) (by omega) (by omega)]; exact R.who q q1 q2
  · rcases e (12 + 8 * q + 0) with z | ⟨-, z1, z2⟩ | ⟨z, -⟩ | ⟨z, -⟩
    · rw [z]; exact R.does q q1 q2
    · exact ⟨z1, z2⟩
    all_goals omega
theorem RowOK.arr {q row : Int → Int} {B t p : Int} (hB : 10000 ≤ B) (R : RowOK B row) (ht : 0 ≤ t ∧ t ≤ 901) (hp : 0 ≤ p ∧ p < 10) : RowOK B (arrR q row t p) ∧ arrR q row t p 0 = row 0 ∧ arrR q row t p 1 = row 1 := by
  unfold arrR
  split
  · rename_i c
    refine RowOK.wr hB R ht hp (fun j => ?_) (fun _ => Or.inr c.1)
    simp only [upI]
    split
    · exact Or.inr (Or.inl ⟨by assumption, by omega, by omega⟩)
    · exact Or.inl rfl
  · exact ⟨R, rfl, rfl⟩
theorem RowOK.ps {q row : Int → Int} {B t p : Int} (hB : 10000 ≤ B) (R : RowOK B row) (ht : 0 ≤ t ∧ t ≤ 901) (hp : 0 ≤ p ∧ p < 10) : RowOK B (psR q row t p) ∧ psR q row t p 0 = row 0 ∧ psR q row t p 1 = row 1 := by
  obtain ⟨Ra, a0, a1⟩ := RowOK.arr (q := q) hB R ht hp
  unfold psR
  split
  · exact ⟨Ra, a0, a1⟩
  split
  · rw [← a0, ← a1]
    refine RowOK.wr hB Ra ht hp (fun j => ?_) (fun z => ?_)
    · simp only [upI]
      split
      · exact Or.inr (Or.inr (Or.inr ⟨by assumption, rfl⟩))
      split
      · exact Or.inr (Or.inr (Or.inl ⟨by assumption, rfl⟩))
      split
      · exact Or.inr (Or.inl ⟨by assumption, by omega, by omega⟩)
      · exact Or.inl rfl
    · simp only [upI] at z
      rw [if_neg (by omega), if_neg (by omega)] at z
      omega
  split
  · rw [← a0, ← a1]
    refine RowOK.wr hB Ra ht hp (fun j => ?_) (fun z => ?_)
    · simp only [upI]
      split
      · exact Or.inr (Or.inr (Or.inr ⟨by assumption, rfl⟩))
      split
      · exact Or.inr (Or.inl ⟨by assumption, by omega, by omega⟩)
      · exact Or.inl rfl
    · simp only [upI] at z
      rw [if_neg (by omega)] at z
      omega
  · exact ⟨Ra, a0, a1⟩
theorem psN_ok {q row : Int → Int} {B t : Int} (hB : 10000 ≤ B) (R : RowOK B row) (ht : 0 ≤ t ∧ t ≤ 901) : ∀ n : Nat, n ≤ 10 → RowOK B (psN q t row n) ∧ psN q t row n 0 = row 0
  | 0, _ => ⟨R, rfl⟩
  | n + 1, h => by
    obtain ⟨R1, e1⟩ := psN_ok hB R ht n (by omega)
    obtain ⟨R2, e2, -⟩ := RowOK.ps (q := q) hB R1 ht (p := n) ⟨by omega, by omega⟩
    exact ⟨R2, e2.trans e1⟩
theorem bgnR_0 {row : Int → Int} {s hand p done : Int} (hs : 0 ≤ s ∧ s < 4) (hh : 1 ≤ hand ∧ hand ≤ 2) (hp : 0 ≤ p ∧ p < 10) (h1 : 0 ≤ row 1) : bgnR row s hand p done 0 = row 0 := by
  unfold bgnR
  rw [if_neg (by omega), if_neg (by omega), if_neg (by omega), if_neg (by omega), if_neg (by omega), if_neg (by omega), if_neg (by omega), if_neg (by omega), if_neg (by omega)]
theorem begN_ok {r c q : Int → Int} {B s hand : Int} {n : Nat} (hn : n ≤ 10) (hB : 10000 ≤ B) (HO : HouseOK r) (C : CrewOK c) (hs : 0 ≤ s ∧ s < 4) (hh : 1 ≤ hand ∧ hand ≤ 2) :
    ∀ (k : Nat) (row : Int → Int) (p : Int), RowOK B row → (p = -2 ∨ (0 ≤ p ∧ p < 10 ∧ row (12 + 8 * p + 0) = 1)) → RowOK B (begN r c q n s hand k row p) ∧ begN r c q n s hand k row p 0 = row 0
  | 0, row, p, R, _ => ⟨R, rfl⟩
  | k + 1, row, p, R, hp => by
    by_cases e : p = -2
    · rw [show begN r c q n s hand (k + 1) row p = row from if_pos e]; exact ⟨R, rfl⟩
    · rcases hp with hp | ⟨p1, p2, hw⟩
      · exact absurd hp e
      have R1 := RowOK.bgn (hand := hand) hB HO C R hs hh ⟨p1, p2⟩ hw
      have z0 := bgnR_0 (done := doneF r c row s p) hs hh ⟨p1, p2⟩ R.served
      rw [show begN r c q n s hand (k + 1) row p = begN r c q n s hand k (bgnR row s hand p (doneF r c row s p)) (if doneF r c row s p ≤ row 0 then nxN c q (bgnR row s hand p (doneF r c row s p)) s n else -2) from if_neg e]
      obtain ⟨a, b⟩ := begN_ok hn hB HO C hs hh k _ (if doneF r c row s p ≤ row 0 then nxN c q (bgnR row s hand p (doneF r c row s p)) s n else -2) R1 (by
        split
        · rcases nxN_b c q (bgnR row s hand p (doneF r c row s p)) s n with z | z
          · exact Or.inl z
          · exact Or.inr ⟨z.1, by omega, z.2.2⟩
        · exact Or.inl rfl)
      exact ⟨a, b.trans z0⟩
theorem nx_ok {c q row : Int → Int} {s : Int} {n : Nat} (hn : n ≤ 10) : nxN c q row s n = -2 ∨ (0 ≤ nxN c q row s n ∧ nxN c q row s n < 10 ∧ row (12 + 8 * nxN c q row s n + 0) = 1) := by
  rcases nxN_b c q row s n with z | z
  · exact Or.inl z
  · exact Or.inr ⟨z.1, by omega, z.2.2⟩
theorem hsN_ok {r c q : Int → Int} {B s t : Int} {n : Nat} (hn : n ≤ 10) (hB : 10000 ≤ B) (HO : HouseOK r) (C : CrewOK c) (hs : 0 ≤ s ∧ s < 4) {row : Int → Int} (R : RowOK B row) : ∀ j : Nat, j ≤ 2 → RowOK B (hsN r c q n t s row j) ∧ hsN r c q n t s row j 0 = row 0
  | 0, _ => ⟨R, rfl⟩
  | j + 1, h => by
    obtain ⟨R1, e1⟩ := hsN_ok (q := q) (t := t) hn hB HO C hs R j (by omega)
    by_cases e : hsN r c q n t s row j (92 + 4 * s + (1 + j)) ≤ t
    · rw [show hsN r c q n t s row (j + 1) = begN r c q n s (1 + j) 12 (hsN r c q n t s row j) (nxN c q (hsN r c q n t s row j) s n) from if_pos e]
      obtain ⟨a, b⟩ := begN_ok (q := q) (n := n) (hand := 1 + (j : Int)) hn hB HO C hs ⟨by omega, by omega⟩ 12 _ _ R1 (nx_ok hn)
      exact ⟨a, b.trans e1⟩
    · rw [show hsN r c q n t s row (j + 1) = hsN r c q n t s row j from if_neg e]
      exact ⟨R1, e1⟩
theorem stN_ok {r c q : Int → Int} {B t : Int} {n : Nat} (hn : n ≤ 10) (hB : 10000 ≤ B) (HO : HouseOK r) (C : CrewOK c) {row : Int → Int} (R : RowOK B row) : ∀ s : Nat, s ≤ 4 → RowOK B (stN r c q n t row s) ∧ stN r c q n t row s 0 = row 0
  | 0, _ => ⟨R, rfl⟩
  | s + 1, h => by
    obtain ⟨R1, e1⟩ := stN_ok (q := q) (t := t) hn hB HO C R s (by omega)
    have hh := C.hands s (by omega) (by omega)
    obtain ⟨R2, e2⟩ := hsN_ok (q := q) (t := t) hn hB HO C (s := s) ⟨by omega, by omega⟩ R1 (c (6 * s + 5)).toNat (by omega)
    exact ⟨R2, e2.trans e1⟩
theorem sec0_ok {r c q : Int → Int} {B : Int} {cm : Nat} (hB : 10000 ≤ B) (HO : HouseOK r) (C : CrewOK c) (hc : cm ≤ 4) {row : Int → Int} (R : RowOK B row) : RowOK B (sec0 r c q cm row) ∧ sec0 r c q cm row 0 = row 0 := by
  have hn := HO.pm
  have h0 := R.now
  obtain ⟨R1, e1⟩ := psN_ok (q := q) hB R R.now (r 5).toNat (by omega)
  obtain ⟨R2, e2⟩ := stN_ok (q := q) (t := row 0) (n := (r 5).toNat) (by omega) hB HO C R1 cm hc
  exact ⟨R2, e2.trans e1⟩
theorem RowOK.tick {B : Int} {row : Int → Int} {v : Int} (hB : 10000 ≤ B) (R : RowOK B row) (hv : 0 ≤ v ∧ v ≤ 901) : RowOK B (upI row 0 v) := by
  have keep : ∀ j : Int, j ≠ 0 → upI row 0 v j = row j := fun j hj => if_neg hj
  refine ⟨by rw [show upI row 0 v 0 = v from if_pos rfl]; exact hv, fun j => ?_, fun q q1 q2 => ?_, fun s s1 s2 => ?_, fun s s1 s2 => ?_, by rw [keep 1 (by omega)]; exact R.served, ?_, fun q q1 q2 => ?_, fun q q1 q2 => ?_, fun j hj => by rw [keep j (by omega)]; exact R.out j hj⟩
  · have := R.cells j
    unfold upI; split <;> omega
  · rw [keep _ (by omega)]; exact R.place q q1 q2
  · rw [keep _ (by omega)]; exact R.stands s s1 s2
  · rw [keep _ (by omega)]; exact R.last s s1 s2
  · rw [keep 1 (by omega)]
    have := cw_le (a := upI row 0 v) (b := row) (fun q q1 q2 z => by rw [keep _ (by omega)] at z; exact z)
    have := R.room
    omega
  · rw [keep _ (by omega)]; exact R.who q q1 q2
  · rw [keep _ (by omega)]; exact R.does q q1 q2
theorem secF_ok {r c q : Int → Int} {B : Int} {cm : Nat} (hB : 10000 ≤ B) (HO : HouseOK r) (C : CrewOK c) (hc : cm ≤ 4) {row : Int → Int} (R : RowOK B row) (h9 : row 0 ≤ 900) : RowOK B (secF r c q cm row) ∧ secF r c q cm row 0 = row 0 + 1 := by
  have h0 := R.now
  obtain ⟨R1, e1⟩ := sec0_ok (q := q) hB HO C hc R
  exact ⟨R1.tick hB ⟨by omega, by omega⟩, by unfold secF upI; exact if_pos rfl⟩
theorem secN_ok {r c q : Int → Int} {B : Int} {cm : Nat} (hB : 10000 ≤ B) (HO : HouseOK r) (C : CrewOK c) (hc : cm ≤ 4) {row : Int → Int} (R : RowOK B row) : ∀ k : Nat, row 0 + k ≤ 901 → RowOK B (secN r c q cm k row) ∧ secN r c q cm k row 0 = row 0 + k
  | 0, _ => ⟨R, by simp [secN]⟩
  | k + 1, h => by
    obtain ⟨R1, e1⟩ := secN_ok (q := q) hB HO C hc R k (by omega)
    obtain ⟨R2, e2⟩ := secF_ok (q := q) hB HO C hc R1 (by omega)
    exact ⟨R2, by show secF r c q cm _ 0 = _; rw [e2, e1]; omega⟩
section EV
variable {h : Hp} {M : Int} {F : Nat → Int} {A : Int → Int → Int} {k : Int} {row : Int → Int} {Q : Int → Hp → Prop} {Qv : Hp → Prop} {B : Int}
theorem t_second (hk : k = 5 ∨ k = 6) (hB : 10000 ≤ B ∧ B ≤ 100000) (HO : HouseOK (A 3)) (C : CrewOK (A 9)) (P : PplOK (A 10)) (hc : 0 ≤ F 25 ∧ F 25 ≤ 4) (R : RowOK B row)
    (hq : Qv (RW h M F A k (secF (A 3) (A 9) (A 10) (F 25).toNat row))) : g_X4_second M (M + k) Qv (RW h M F A k row) := by
  have hn := HO.pm
  have t0 := R.now
  unfold g_X4_second
  simp only [RW_k hk]
  rintro y3 rfl
  refine Lp2_for (A 3 5).toNat 0 (fun _ => row 0) (fun j => RW h M F A k (psN (A 10) (row 0) row j)) (fun K j hj hK => ?_) (fun K => ?_)
  · have hp : 0 ≤ (j : Int) ∧ (j : Int) < 10 := ⟨by omega, by omega⟩
    obtain ⟨R1, e1⟩ := psN_ok (q := A 10) hB.1 R R.now j (by omega)
    generalize hrow : psN (A 10) (row 0) row j = row1 at R1 e1 ⊢
    have hK' : ∀ (i : Int) (h' : Hp), i = (j : Int) + 1 → h' = RW h M F A k (psR (A 10) row1 (row 0) j) → K (row 0) i h' := fun i h' hi hh => hK _ _ _ rfl (by omega) (by rw [hh, ← hrow]; rfl)
    rw [Int.zero_add]
    unfold g_X4_second_L6
    simp only [RW_3 hk, RW_k hk]
    have b51 : ∀ row2 : Int → Int, row2 = arrR (A 10) row1 (row 0) j → g_X4_second_b51 M (M + k) Qv K (row 0) j (12 + 8 * (j : Int)) (RW h M F A k row2) := by
      intro row2 e2
      have P1 := P.comes j hp.1 hp.2
      have P2 := P.shelf j hp.1 hp.2
      have P3 := P.patience j hp.1 hp.2
      have no : row2 = psR (A 10) row1 (row 0) j → (i32 ((j : Int) + 1)) ∧ (∀ y143 : Int, y143 = (j : Int) + 1 → (K (row 0) y143 (RW h M F A k row2))) := fun z => ⟨(by first | omega | (unfold i32; omega)), fun y e => hK' _ _ e (by rw [z])⟩
      have b111 : row2 (12 + 8 * (j : Int) + 0) = 1 → ¬ (0 ≤ A 10 (7 * j + 6) - 1 ∧ A 10 (7 * j + 6) - 1 ≤ row 0) → g_X4_second_b111 M (M + k) Qv K (row 0) j (12 + 8 * (j : Int)) (RW h M F A k row2) := by
        intro w1 w2
        unfold g_X4_second_b111 g_X4_second_b143
        refine t_man hk hp ⟨by omega, by omega⟩ (fun _ => ⟨(by first | omega | (unfold i32; omega)), t_man hk hp ⟨by omega, by omega⟩ (fun _ => ⟨fun c => no ?_, fun c => ⟨(by first | omega | (unfold i32; omega)), (by first | omega | (unfold i32; omega)), ?_⟩⟩)⟩)
        · unfold psR; rw [← e2, if_neg (by rw [w1]; simp), if_neg w2, if_neg (by omega)]
        · rintro m134 e134
          obtain ⟨r1, h1, rfl⟩ := RWs hk e134
          refine ⟨(by first | omega | (unfold i32; omega)), (by first | omega | (unfold i32; omega)), ?_⟩
          rintro m142 e142
          obtain ⟨r2, h2, rfl⟩ := RWs hk e142
          refine ⟨(by first | omega | (unfold i32; omega)), fun y e => hK' _ _ e ?_⟩
          unfold psR; rw [← e2, if_neg (by rw [w1]; simp), if_neg w2, if_pos (by omega), h2, h1]
      unfold g_X4_second_b51
      simp only [RW_k hk]
      refine ⟨(by first | omega | (unfold i32; omega)), (by first | omega | (unfold i32; omega)), fun c => t_man hk hp ⟨by omega, by omega⟩ (fun _ => ⟨(by first | omega | (unfold i32; omega)), ?_⟩), fun c => ?_⟩
      · rintro y73 rfl
        refine ⟨fun c1 => b111 c (by omega), fun c1 => ⟨fun c2 => b111 c (by omega), fun c2 => ⟨(by first | omega | (unfold i32; omega)), (by first | omega | (unfold i32; omega)), ?_⟩⟩⟩
        rintro m92 e92
        obtain ⟨r1, h1, rfl⟩ := RWs hk e92
        refine ⟨(by first | omega | (unfold i32; omega)), (by first | omega | (unfold i32; omega)), ?_⟩
        rintro m99 e99
        obtain ⟨r2, h2, rfl⟩ := RWs hk e99
        refine ⟨(by first | omega | (unfold i32; omega)), (by first | omega | (unfold i32; omega)), ?_⟩
        rintro m107 e107
        obtain ⟨r3, h3, rfl⟩ := RWs hk e107
        unfold g_X4_second_b143
        refine ⟨(by first | omega | (unfold i32; omega)), fun y e => hK' _ _ e ?_⟩
        unfold psR; rw [← e2, if_neg (by rw [c]; simp), if_pos ⟨c1, c2⟩, h3, h2, h1]
      · unfold g_X4_second_b143
        refine no ?_
        unfold psR; rw [← e2, if_pos c]
    refine ⟨fun c => absurd c (by omega), fun c => ⟨(by first | omega | (unfold i32; omega)), (by first | omega | (unfold i32; omega)), ?_⟩⟩
    rintro y23 rfl
    refine ⟨(by first | omega | (unfold i32; omega)), (by first | omega | (unfold i32; omega)), fun c1 => b51 _ ?_, fun c1 => t_man hk hp ⟨by omega, by omega⟩ (fun _ => ⟨fun c2 => b51 _ ?_, fun c2 => ⟨(by first | omega | (unfold i32; omega)), (by first | omega | (unfold i32; omega)), ?_⟩⟩)⟩
    · unfold arrR; rw [if_neg (fun z => c1 z.1)]
    · unfold arrR; rw [if_neg (fun z => c2 z.2)]
    · rintro m50 e50
      obtain ⟨r1, h1, rfl⟩ := RWs hk e50
      refine b51 _ ?_
      unfold arrR; rw [if_pos ⟨c1, c2⟩, h1]
  · obtain ⟨R1, e1⟩ := psN_ok (q := A 10) hB.1 R R.now (A 3 5).toNat (by omega)
    unfold g_X4_second_L6 g_X4_second_b149
    simp only [RW_3 hk]
    refine ⟨fun _ => ?_, fun c => absurd c (by omega)⟩
    have hq' : Qv (RW h M F A k (upI (stN (A 3) (A 9) (A 10) (A 3 5).toNat (row 0) (psN (A 10) (row 0) row (A 3 5).toNat) (F 25).toNat) 0 (row 0 + 1))) := hq
    generalize psN (A 10) (row 0) row (A 3 5).toNat = row1 at R1 e1 hq' ⊢
    refine Lp2_for (F 25).toNat 0 (fun _ => row 0) (fun s => RW h M F A k (stN (A 3) (A 9) (A 10) (A 3 5).toNat (row 0) row1 s)) (fun K s hs hK => ?_) (fun K => ?_)
    · have hs4 : 0 ≤ (s : Int) ∧ (s : Int) < 4 := ⟨by omega, by omega⟩
      obtain ⟨R2, e2⟩ := stN_ok (q := A 10) (t := row 0) (n := (A 3 5).toNat) (by omega) hB.1 HO C R1 s (by omega)
      generalize hrow : stN (A 3) (A 9) (A 10) (A 3 5).toNat (row 0) row1 s = row2 at R2 e2 ⊢
      have hK' : ∀ (i : Int) (h' : Hp), i = (s : Int) + 1 → h' = RW h M F A k (hsN (A 3) (A 9) (A 10) (A 3 5).toNat (row 0) s row2 (A 9 (6 * s + 5)).toNat) → K (row 0) i h' := fun i h' hi hh => hK _ _ _ rfl (by omega) (by rw [hh, ← hrow]; rfl)
      have hh := C.hands s hs4.1 hs4.2
      rw [Int.zero_add]
      unfold g_X4_second_L151
      simp only [RW_F]
      refine ⟨fun c => absurd c (by omega), fun c => ?_⟩
      refine Lp3_for (A 9 (6 * s + 5)).toNat 1 (fun _ => row 0) (fun _ => (s : Int)) (fun j => RW h M F A k (hsN (A 3) (A 9) (A 10) (A 3 5).toNat (row 0) s row2 j)) (fun K2 j hj hK2 => ?_) (fun K2 => ?_)
      · obtain ⟨R3, e3⟩ := hsN_ok (q := A 10) (t := row 0) (n := (A 3 5).toNat) (by omega) hB.1 HO C hs4 R2 j (by omega)
        unfold g_X4_second_L162 g_X4_second_b201
        simp only [RW_9 hk, RW_k hk]
        refine ⟨(by first | omega | (unfold i32; omega)), (by first | omega | (unfold i32; omega)), (by first | omega | (unfold i32; omega)), fun c => absurd c (by omega), fun c => ⟨(by first | omega | (unfold i32; omega)), (by first | omega | (unfold i32; omega)), (by first | omega | (unfold i32; omega)), (by first | omega | (unfold i32; omega)), fun c1 => ⟨(by first | omega | (unfold i32; omega)), fun y e => hK2 _ _ _ _ rfl rfl e ?_⟩, fun c1 => ?_⟩⟩
        · rw [show hsN (A 3) (A 9) (A 10) (A 3 5).toNat (row 0) s row2 (j + 1) = hsN (A 3) (A 9) (A 10) (A 3 5).toNat (row 0) s row2 j from if_neg (by omega)]
        · refine t_begin hk hB HO C R3 hs4 ⟨by omega, by omega⟩ (fun _ => ⟨(by first | omega | (unfold i32; omega)), fun y e => hK2 _ _ _ _ rfl rfl e ?_⟩)
          rw [show hsN (A 3) (A 9) (A 10) (A 3 5).toNat (row 0) s row2 (j + 1) = begN (A 3) (A 9) (A 10) (A 3 5).toNat s (1 + j) 12 (hsN (A 3) (A 9) (A 10) (A 3 5).toNat (row 0) s row2 j) (nxN (A 9) (A 10) (hsN (A 3) (A 9) (A 10) (A 3 5).toNat (row 0) s row2 j) s (A 3 5).toNat) from if_pos c1]
      · unfold g_X4_second_L162 g_X4_second_b207
        simp only [RW_9 hk, RW_k hk]
        exact ⟨(by first | omega | (unfold i32; omega)), (by first | omega | (unfold i32; omega)), (by first | omega | (unfold i32; omega)), fun c => ⟨(by first | omega | (unfold i32; omega)), fun y e => hK' _ _ e rfl⟩, fun c => absurd c (by omega)⟩
    · obtain ⟨R2, e2⟩ := stN_ok (q := A 10) (t := row 0) (n := (A 3 5).toNat) (by omega) hB.1 HO C R1 (F 25).toNat (by omega)
      unfold g_X4_second_L151 g_X4_second_b213
      simp only [RW_F, RW_k hk, e2, e1]
      refine ⟨fun _ => ⟨(by first | omega | (unfold i32; omega)), ?_⟩, fun c => absurd c (by omega)⟩
      rintro m219 e219
      obtain ⟨r1, h1, rfl⟩ := RWs hk e219
      rw [h1]; exact hq'
theorem Lp0_for {B : (Hp → Prop) → Hp → Prop} (n : Nat) (Hs : Nat → Hp)
    (step : ∀ (K : Hp → Prop) (j : Nat), j < n → (∀ (h : Hp), h = Hs (j + 1) → K h) → B K (Hs j))
    (fin : ∀ K : Hp → Prop, B K (Hs n)) : Lp0 B (Hs 0) := by
  refine Lp0_ind (k := n) (fun k h => ∃ j : Nat, j ≤ n ∧ k = n - j ∧ h = Hs j) ?_ ⟨0, by omega, by omega, rfl⟩
  rintro k h ⟨j, hj, hk, rfl⟩ K hK
  by_cases e : j = n
  · subst e; exact fin K
  · exact step K j (by omega) (fun h hh => hK (n - (j + 1)) h (by omega) ⟨j + 1, by omega, rfl, hh⟩)
theorem t_copy {H : Hp} {a b : Int} {x y n : Int} (hn : 0 ≤ n ∧ n ≤ 2000) (ta : hT H a = 1) (tb : hT H b = 1) (hab : a ≠ b) (hx : 0 ≤ x ∧ x + n ≤ hL H a ∧ hL H a ≤ 2000) (hy : 0 ≤ y ∧ y + n ≤ hL H b ∧ hL H b ≤ 2000)
    (hq : Qv (putA H b (fun j => if y ≤ j ∧ j < y + n then hA H a (x + (j - y)) else hA H b j))) : g_X4_copy a x b y n Qv H := by
  unfold g_X4_copy
  have e0 : H = putA H b (fun j => if y ≤ j ∧ j < y + ((0 : Nat) : Int) then hA H a (x + (j - y)) else hA H b j) := by
    obtain ⟨h1, h2, h3, h4, h5, h6⟩ := H
    unfold putA hA
    simp only [Prod.mk.injEq, true_and, and_true]
    funext c j
    by_cases e : c = b
    · subst e; rw [if_pos rfl, if_neg (by omega)]
    · rw [if_neg e]
  have h0 : Lp1 (g_X4_copy_L3 a x b y n Qv) 0 (putA H b (fun j => if y ≤ j ∧ j < y + ((0 : Nat) : Int) then hA H a (x + (j - y)) else hA H b j)) := by
    refine Lp1_for n.toNat 0 (fun i => putA H b (fun j => if y ≤ j ∧ j < y + (i : Int) then hA H a (x + (j - y)) else hA H b j)) (fun K i hi hK => ?_) (fun K => ?_)
    · unfold g_X4_copy_L3
      have eT : ∀ f, hT (putA H b f) = hT H := fun _ => rfl
      have eL : ∀ f, hL (putA H b f) = hL H := fun _ => rfl
      simp only [eT, eL]
      refine ⟨fun c => absurd c (by omega), fun c => ⟨(by first | omega | (unfold i32; omega)), (by first | omega | (unfold i32; omega)), ta, (by first | omega | (unfold i32; omega)), tb, (by first | omega | (unfold i32; omega)), ?_⟩⟩
      rintro m21 rfl
      refine ⟨(by first | omega | (unfold i32; omega)), fun y' e => hK _ _ e ?_⟩
      rw [setA_put]
      unfold putA hA
      simp only [Prod.mk.injEq, true_and, and_true]
      funext c j
      by_cases e : c = b
      · rw [if_pos e, if_pos e]
        simp only [upI, if_pos, if_neg hab]
        by_cases q : j = y + (0 + (i : Int))
        · rw [if_pos q, if_pos (by omega), show x + (j - y) = x + (0 + (i : Int)) by omega]
        · rw [if_neg q]
          by_cases q2 : y ≤ j ∧ j < y + (i : Int)
          · rw [if_pos q2, if_pos (by omega)]
          · rw [if_neg q2, if_neg (by omega)]
      · rw [if_neg e, if_neg e, if_neg e]
    · unfold g_X4_copy_L3 g_X4_copy_b28
      refine ⟨fun _ => ?_, fun c => absurd c (by omega)⟩
      have : ((n.toNat : Nat) : Int) = n := by omega
      rw [this]; exact hq
  rw [← e0] at h0
  exact h0
end EV
