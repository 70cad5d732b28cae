/-! LAYER 2: one of the staff begins with people, in the twin -/
theorem sumN_ext {f g : Nat → Int} : ∀ n : Nat, (∀ j, j < n → f j = g j) → sumN f n = sumN g n
  | 0, _ => rfl
  | n + 1, e => by simp only [sumN]; rw [sumN_ext n (fun j hj => e j (by omega)), e n (by omega)]
theorem sumN_one {f g : Nat → Int} (p : Nat) : ∀ n : Nat, p < n → (∀ j, j < n → j ≠ p → f j = g j) → sumN f n = sumN g n - g p + f p
  | 0, h, _ => absurd h (by omega)
  | n + 1, h, e => by
    simp only [sumN]
    by_cases q : p = n
    · subst q
      rw [sumN_ext p (fun j hj => e j (by omega) (by omega))]; omega
    · rw [sumN_one p n (by omega) (fun j hj hn => e j (by omega) hn), e n (by omega) (by omega)]; omega
/-- how many are waiting; how many may still be begun with -/
def ww (row : Int → Int) : Int := sumN (fun p => if row (12 + 8 * p + 0) = 1 then 1 else 0) 10
def cw (row : Int → Int) : Int := sumN (fun p => if row (12 + 8 * p + 0) = 1 ∨ row (12 + 8 * p + 0) = 0 then 1 else 0) 10
theorem sumN_01 {f : Nat → Int} (n : Nat) (h : ∀ j, j < n → 0 ≤ f j ∧ f j ≤ 1) : 0 ≤ sumN f n ∧ sumN f n ≤ n := by
  have := sumN_b (B := 1) n h; omega
theorem ww_b (row : Int → Int) : 0 ≤ ww row ∧ ww row ≤ 10 := sumN_01 10 (fun j _ => by (try dsimp only); split <;> omega)
theorem cw_b (row : Int → Int) : 0 ≤ cw row ∧ cw row ≤ 10 := sumN_01 10 (fun j _ => by (try dsimp only); split <;> omega)
def RowOK (B : Int) (row : Int → Int) : Prop := (0 ≤ row 0 ∧ row 0 ≤ 901) ∧ (∀ j : Int, -B ≤ row j ∧ row j ≤ B) ∧ (∀ p : Int, 0 ≤ p → p < 10 → 0 ≤ row (12 + 8 * p + 1) ∧ row (12 + 8 * p + 1) ≤ 19) ∧ (∀ s : Int, 0 ≤ s → s < 4 → 0 ≤ row (92 + 4 * s) ∧ row (92 + 4 * s) ≤ 19) ∧ (∀ s : Int, 0 ≤ s → s < 4 → 0 ≤ row (92 + 4 * s + 3) ∧ row (92 + 4 * s + 3) ≤ 10) ∧ (0 ≤ row 1) ∧ (row 1 + cw row ≤ 10) ∧ (∀ k : Int, 0 ≤ k → k < 10 → 0 ≤ row (2 + k) ∧ row (2 + k) < 10) ∧ (∀ p : Int, 0 ≤ p → p < 10 → 0 ≤ row (12 + 8 * p + 0) ∧ row (12 + 8 * p + 0) ≤ 5) ∧ (∀ j : Int, j < 0 ∨ 108 ≤ j → row j = 0)
theorem RowOK.now {B : Int} {row : Int → Int} (H : RowOK B row) : 0 ≤ row 0 ∧ row 0 ≤ 901 := H.1
theorem RowOK.cells {B : Int} {row : Int → Int} (H : RowOK B row) : ∀ j : Int, -B ≤ row j ∧ row j ≤ B := H.2.1
theorem RowOK.place {B : Int} {row : Int → Int} (H : RowOK B row) : ∀ p : Int, 0 ≤ p → p < 10 → 0 ≤ row (12 + 8 * p + 1) ∧ row (12 + 8 * p + 1) ≤ 19 := H.2.2.1
theorem RowOK.stands {B : Int} {row : Int → Int} (H : RowOK B row) : ∀ s : Int, 0 ≤ s → s < 4 → 0 ≤ row (92 + 4 * s) ∧ row (92 + 4 * s) ≤ 19 := H.2.2.2.1
theorem RowOK.last {B : Int} {row : Int → Int} (H : RowOK B row) : ∀ s : Int, 0 ≤ s → s < 4 → 0 ≤ row (92 + 4 * s + 3) ∧ row (92 + 4 * s + 3) ≤ 10 := H.2.2.2.2.1
theorem RowOK.served {B : Int} {row : Int → Int} (H : RowOK B row) : 0 ≤ row 1 := H.2.2.2.2.2.1
theorem RowOK.room {B : Int} {row : Int → Int} (H : RowOK B row) : row 1 + cw row ≤ 10 := H.2.2.2.2.2.2.1
theorem RowOK.who {B : Int} {row : Int → Int} (H : RowOK B row) : ∀ k : Int, 0 ≤ k → k < 10 → 0 ≤ row (2 + k) ∧ row (2 + k) < 10 := H.2.2.2.2.2.2.2.1
theorem RowOK.does {B : Int} {row : Int → Int} (H : RowOK B row) : ∀ p : Int, 0 ≤ p → p < 10 → 0 ≤ row (12 + 8 * p + 0) ∧ row (12 + 8 * p + 0) ≤ 5 := H.2.2.2.2.2.2.2.2.1
theorem RowOK.out {B : Int} {row : Int → Int} (H : RowOK B row) : ∀ j : Int, j < 0 ∨ 108 ≤ j → row j = 0 := H.2.2.2.2.2.2.2.2.2
theorem bgnR_d {row : Int → Int} {s hand p done : Int} (hs : 0 ≤ s ∧ s < 4) (hh : 1 ≤ hand ∧ hand ≤ 2) (hp : 0 ≤ p ∧ p < 10) (h1 : 0 ≤ row 1 ∧ row 1 < 10) {q : Int} (hq : 0 ≤ q ∧ q < 10) :
    bgnR row s hand p done (12 + 8 * q + 0) = if q = p then 2 else row (12 + 8 * q + 0) := by
  unfold bgnR
  rw [if_neg (by omega), if_neg (by omega), if_neg (by omega), if_neg (by omega), if_neg (by omega), if_neg (by omega), if_neg (by omega), if_neg (by omega)]
  by_cases e : q = p
  · rw [if_pos (by omega), if_pos e]
  · rw [if_neg (by omega), if_neg e]
theorem bgnR_ww {row : Int → Int} {s hand p done : Int} (hs : 0 ≤ s ∧ s < 4) (hh : 1 ≤ hand ∧ hand ≤ 2) (hp : 0 ≤ p ∧ p < 10) (h1 : 0 ≤ row 1 ∧ row 1 < 10) (hw : row (12 + 8 * p + 0) = 1) : ww (bgnR row s hand p done) = ww row - 1 := by
  unfold ww
  rw [sumN_one (g := fun p => if row (12 + 8 * p + 0) = 1 then 1 else 0) p.toNat 10 (by omega) (fun j hj hn => by
    (try dsimp only)
    rw [bgnR_d hs hh hp h1 ⟨by omega, by omega⟩, if_neg (show ¬ (j : Int) = p by omega)])]
  have e : ((p.toNat : Nat) : Int) = p := by omega
  (try dsimp only)
  rw [e, bgnR_d hs hh hp h1 hp, if_pos rfl, hw]
  simp
theorem bgnR_cw {row : Int → Int} {s hand p done : Int} (hs : 0 ≤ s ∧ s < 4) (hh : 1 ≤ hand ∧ hand ≤ 2) (hp : 0 ≤ p ∧ p < 10) (h1 : 0 ≤ row 1 ∧ row 1 < 10) (hw : row (12 + 8 * p + 0) = 1) : cw (bgnR row s hand p done) = cw row - 1 := by
  unfold cw
  rw [sumN_one (g := fun p => if row (12 + 8 * p + 0) = 1 ∨ row (12 + 8 * p + 0) = 0 then 1 else 0) p.toNat 10 (by omega) (fun j hj hn => by
    (try dsimp only)
    rw [bgnR_d hs hh hp h1 ⟨by omega, by omega⟩, if_neg (show ¬ (j : Int) = p by omega)])]
  have e : ((p.toNat : Nat) : Int) = p := by omega
  (try dsimp only)
  rw [e, bgnR_d hs hh hp h1 hp, if_pos rfl, hw]
  simp
theorem ww_pos {row : Int → Int} {p : Int} (hp : 0 ≤ p ∧ p < 10) (hw : row (12 + 8 * p + 0) = 1) : 1 ≤ ww row := by
  have h := sumN_one (f := fun p => if row (12 + 8 * p + 0) = 1 then 1 else 0) (g := fun j => if j = p.toNat then 0 else if row (12 + 8 * j + 0) = 1 then 1 else 0) p.toNat 10 (by omega) (fun j hj hn => by (try dsimp only); rw [if_neg hn])
  have h2 := sumN_01 (f := fun j => if j = p.toNat then 0 else if row (12 + 8 * j + 0) = 1 then 1 else 0) 10 (fun j _ => by (try dsimp only); split; omega; split <;> omega)
  have e : ((p.toNat : Nat) : Int) = p := by omega
  (try dsimp only at h)
  rw [if_pos rfl, e, if_pos hw] at h
  unfold ww; omega
theorem cw_pos {row : Int → Int} {p : Int} (hp : 0 ≤ p ∧ p < 10) (hw : row (12 + 8 * p + 0) = 1) : 1 ≤ cw row := by
  have h := sumN_one (f := fun p => if row (12 + 8 * p + 0) = 1 ∨ row (12 + 8 * p + 0) = 0 then 1 else 0) (g := fun j => if j = p.toNat then 0 else if row (12 + 8 * j + 0) = 1 ∨ row (12 + 8 * j + 0) = 0 then 1 else 0) p.toNat 10 (by omega) (fun j hj hn => by (try dsimp only); rw [if_neg hn])
  have h2 := sumN_01 (f := fun j => if j = p.toNat then 0 else if row (12 + 8 * j + 0) = 1 ∨ row (12 + 8 * j + 0) = 0 then 1 else 0) 10 (fun j _ => by (try dsimp only); split; omega; split <;> omega)
  have e : ((p.toNat : Nat) : Int) = p := by omega
  (try dsimp only at h)
  rw [if_pos rfl, e, if_pos (Or.inl hw)] at h
  unfold cw; omega
theorem far_b {a b : Int} (h1 : 0 ≤ a ∧ a ≤ 19) (h2 : 0 ≤ b ∧ b ≤ 19) : 0 ≤ far a b ∧ far a b ≤ 19 := by unfold far; split <;> omega
theorem doneF_b {r c row : Int → Int} {B s p : Int} (HO : HouseOK r) (C : CrewOK c) (R : RowOK B row) (hs : 0 ≤ s ∧ s < 4) (hp : 0 ≤ p ∧ p < 10) : row 0 ≤ doneF r c row s p ∧ doneF r c row s p ≤ 9000 := by
  have h1 := mulB (C.step s hs.1 hs.2) (far_b (R.stands s hs.1 hs.2) (R.place p hp.1 hp.2))
  have h2 := tbF_b HO (last := row (92 + 4 * s + 3) - 1) hp
  have h3 := R.now
  unfold doneF; omega
theorem RowOK.bgn {r c row : Int → Int} {B s hand p : Int} (hB : 10000 ≤ B) (HO : HouseOK r) (C : CrewOK c) (R : RowOK B row) (hs : 0 ≤ s ∧ s < 4) (hh : 1 ≤ hand ∧ hand ≤ 2) (hp : 0 ≤ p ∧ p < 10) (hw : row (12 + 8 * p + 0) = 1) : RowOK B (bgnR row s hand p (doneF r c row s p)) := by
  have d := doneF_b HO C R hs hp
  have c1 := cw_pos hp hw
  have c2 := R.room
  have c3 := R.served
  have h1 : 0 ≤ row 1 ∧ row 1 < 10 := by omega
  have n0 := R.now
  have pl := R.place p hp.1 hp.2
  refine ⟨?_, ?_, ?_, ?_, ?_, ?_, ?_, ?_, ?_, ?_⟩
  · unfold bgnR
    rw [if_neg (by omega), if_neg (by omega), if_neg (by omega), if_neg (by omega), if_neg (by omega), if_neg (by omega), if_neg (by omega), if_neg (by omega), if_neg (by omega)]
    exact n0
  · intro j
    have := R.cells j
    unfold bgnR
    repeat' split
    all_goals omega
  · intro q q1 q2
    have := R.place q q1 q2
    unfold bgnR
    rw [if_neg (by omega), if_neg (by omega), if_neg (by omega), if_neg (by omega), if_neg (by omega), if_neg (by omega), if_neg (by omega), if_neg (by omega), if_neg (by omega)]
    exact this
  · intro q q1 q2
    have := R.stands q q1 q2
    unfold bgnR
    rw [if_neg (by omega), if_neg (by omega), if_neg (by omega), if_neg (by omega)]
    split
    · exact pl
    · rw [if_neg (by omega), if_neg (by omega), if_neg (by omega), if_neg (by omega)]
      exact this
  · intro q q1 q2
    have := R.last q q1 q2
    unfold bgnR
    rw [if_neg (by omega), if_neg (by omega)]
    split
    · omega
    · rw [if_neg (by omega), if_neg (by omega), if_neg (by omega), if_neg (by omega), if_neg (by omega), if_neg (by omega)]
      exact this
  · show 0 ≤ bgnR row s hand p _ 1
    unfold bgnR; rw [if_pos rfl]; omega
  · rw [bgnR_cw hs hh hp h1 hw, show bgnR row s hand p (doneF r c row s p) 1 = row 1 + 1 from if_pos rfl]; omega
  · intro q q1 q2
    have := R.who q q1 q2
    unfold bgnR
    rw [if_neg (by omega)]
    split
    · omega
    · rw [if_neg (by omega), if_neg (by omega), if_neg (by omega), if_neg (by omega), if_neg (by omega), if_neg (by omega), if_neg (by omega)]
      exact this
  · intro q q1 q2
    have := R.does q q1 q2
    rw [bgnR_d hs hh hp h1 ⟨q1, q2⟩]
    split <;> omega
  · intro j hj
    unfold bgnR
    rw [if_neg (by omega), if_neg (by omega), if_neg (by omega), if_neg (by omega), if_neg (by omega), if_neg (by omega), if_neg (by omega), if_neg (by omega), if_neg (by omega)]
    exact R.out j hj
section EV
variable {h : Hp} {M : Int} {F : Nat → Int} {A : Int → Int → Int} {k : Int} {row : Int → Int} {Q : Int → Hp → Prop} {Qv : Hp → Prop} {B : Int}
theorem t_timeOf (hk : k = 5 ∨ k = 6) (HO : HouseOK (A 3)) (R : RowOK B row) {s p : Int} (hs : 0 ≤ s ∧ s < 4) (hp : 0 ≤ p ∧ p < 10) (hq : Q (tbF (A 3) (row (92 + 4 * s + 3) - 1) p) (RW h M F A k row)) : g_X4_timeOf M (M + k) s p Q (RW h M F A k row) := by
  have := R.last s hs.1 hs.2
  unfold g_X4_timeOf
  simp only [RW_k hk]
  refine ⟨(by first | omega | (unfold i32; omega)), (by first | omega | (unfold i32; omega)), (by first | omega | (unfold i32; omega)), (by first | omega | (unfold i32; omega)), (by first | omega | (unfold i32; omega)), ?_⟩
  rintro y12 rfl
  exact t_timeBehind hk HO (by omega) hp (fun _ => hq)
theorem RWs (hk : k = 5 ∨ k = 6) {m : Hp} {i v : Int} (e : m = setA (RW h M F A k row) (M + k) i v) : ∃ r : Int → Int, r = upI row i v ∧ m = RW h M F A k r := ⟨_, rfl, e.trans (RW_set hk i v)⟩
theorem t_begin (hk : k = 5 ∨ k = 6) (hB : 10000 ≤ B ∧ B ≤ 100000) (HO : HouseOK (A 3)) (C : CrewOK (A 9)) (R : RowOK B row) {s hand : Int} (hs : 0 ≤ s ∧ s < 4) (hh : 1 ≤ hand ∧ hand ≤ 2)
    (hq : Qv (RW h M F A k (begN (A 3) (A 9) (A 10) (A 3 5).toNat s hand 12 row (nxN (A 9) (A 10) row s (A 3 5).toNat)))) : g_X4_begin M (M + k) s hand Qv (RW h M F A k row) := by
  have hn := HO.pm
  have hr : ∀ {row : Int → Int}, RowOK B row → ∀ j : Int, -100000 ≤ row j ∧ row j ≤ 100000 := fun R j => by have := R.cells j; omega
  unfold g_X4_begin
  simp only [RW_k hk]
  rintro y3 rfl
  refine t_nextFor hk HO C (hr R) hs (fun _ => ?_)
  refine Lp2_ind (k := (ww row).toNat) (fun m t p h' => ∃ (row' : Int → Int) (kk : Nat), h' = RW h M F A k row' ∧ RowOK B row' ∧ t = row' 0 ∧ (p = -2 ∨ (0 ≤ p ∧ p < 10 ∧ row' (12 + 8 * p + 0) = 1)) ∧ m = (ww row').toNat ∧ m < kk ∧
    begN (A 3) (A 9) (A 10) (A 3 5).toNat s hand kk row' p = begN (A 3) (A 9) (A 10) (A 3 5).toNat s hand 12 row (nxN (A 9) (A 10) row s (A 3 5).toNat)) ?_ ⟨row, 12, rfl, R, rfl, ?_, rfl, ?_, rfl⟩
  · rintro m t p h' ⟨row', kk, rfl, R', rfl, hp, rfl, hkk, hbeg⟩ K hK
    obtain ⟨kk, rfl⟩ : ∃ k1, kk = k1 + 1 := ⟨kk - 1, by omega⟩
    unfold g_X4_begin_L13 g_X4_begin_b175 g_X4_begin_b170
    refine ⟨fun c => ?_, fun c => ?_⟩
    · rw [← hbeg, show begN (A 3) (A 9) (A 10) (A 3 5).toNat s hand (kk + 1) row' p = row' from if_pos c] at hq
      exact hq
    · rcases hp with hp | ⟨hp1, hp2, hw⟩
      · exact absurd hp c
      have d := doneF_b HO C R' hs ⟨hp1, hp2⟩
      have c1 := cw_pos ⟨hp1, hp2⟩ hw
      have c2 := R'.room
      have c3 := R'.served
      have c4 := R'.now
      have h1 : 0 ≤ row' 1 ∧ row' 1 < 10 := by omega
      have s1 := R'.stands s hs.1 hs.2
      have s2 := R'.place p hp1 hp2
      have f1 := far_b s1 s2
      have f2 := mulB (C.step s hs.1 hs.2) f1
      have f3 := tbF_b HO (last := row' (92 + 4 * s + 3) - 1) (p := p) ⟨hp1, hp2⟩
      refine ⟨(by first | omega | (unfold i32; omega)), (by first | omega | (unfold i32; omega)), ?_⟩
      rintro y28 rfl
      refine ⟨(by first | omega | (unfold i32; omega)), (by first | omega | (unfold i32; omega)), ?_⟩
      rintro y36 rfl
      simp only [RW_k hk, RW_9 hk]
      refine ⟨(by first | omega | (unfold i32; omega)), (by first | omega | (unfold i32; omega)), (by first | omega | (unfold i32; omega)), (by first | omega | (unfold i32; omega)), (by first | omega | (unfold i32; omega)), (by first | omega | (unfold i32; omega)), t_far (by first | omega | (unfold i32; omega)) (by first | omega | (unfold i32; omega)) (fun _ => ?_)⟩
      refine ⟨(by first | omega | (unfold i32; omega)), (by first | omega | (unfold i32; omega)), t_timeOf hk HO R' hs ⟨hp1, hp2⟩ (fun _ => ?_)⟩
      refine ⟨(by first | omega | (unfold i32; omega)), ?_⟩
      rintro y75 e75
      have e75 : y75 = doneF (A 3) (A 9) row' s p := e75
      refine ⟨(by first | omega | (unfold i32; omega)), (by first | omega | (unfold i32; omega)), ?_⟩
      rintro m83 e83
      obtain ⟨r1, h1', rfl⟩ := RWs hk e83
      refine ⟨(by first | omega | (unfold i32; omega)), (by first | omega | (unfold i32; omega)), ?_⟩
      rintro m91 e91
      obtain ⟨r2, h2', rfl⟩ := RWs hk e91
      refine ⟨(by first | omega | (unfold i32; omega)), (by first | omega | (unfold i32; omega)), ?_⟩
      rintro m99 e99
      obtain ⟨r3, h3', rfl⟩ := RWs hk e99
      refine ⟨(by first | omega | (unfold i32; omega)), (by first | omega | (unfold i32; omega)), ?_⟩
      rintro m107 e107
      obtain ⟨r4, h4', rfl⟩ := RWs hk e107
      refine ⟨(by first | omega | (unfold i32; omega)), (by first | omega | (unfold i32; omega)), (by first | omega | (unfold i32; omega)), ?_⟩
      rintro m117 e117
      obtain ⟨r5, h5', rfl⟩ := RWs hk e117
      rw [RW_k hk] at h5'
      refine ⟨(by first | omega | (unfold i32; omega)), (by first | omega | (unfold i32; omega)), ?_⟩
      rintro m125 e125
      obtain ⟨r6, h6', rfl⟩ := RWs hk e125
      refine ⟨(by first | omega | (unfold i32; omega)), (by first | omega | (unfold i32; omega)), (by first | omega | (unfold i32; omega)), ?_⟩
      rintro m135 e135
      obtain ⟨r7, h7', rfl⟩ := RWs hk e135
      have e4 : r4 (12 + 8 * p + 1) = row' (12 + 8 * p + 1) := by
        rw [h4', h3', h2', h1']; simp only [upI]
        rw [if_neg (by omega), if_neg (by omega), if_neg (by omega), if_neg (by omega)]
      have e7 : r7 1 = row' 1 := by
        rw [h7', h6', h5', h4', h3', h2', h1']; simp only [upI]
        rw [if_neg (by omega), if_neg (by omega), if_neg (by omega), if_neg (by omega), if_neg (by omega), if_neg (by omega), if_neg (by omega)]
      simp only [RW_k hk, e7]
      refine ⟨(by first | omega | (unfold i32; omega)), (by first | omega | (unfold i32; omega)), ?_⟩
      rintro m144 e144
      obtain ⟨r8, h8', rfl⟩ := RWs hk e144
      have e8 : r8 1 = row' 1 := by
        rw [h8']; simp only [upI]; rw [if_neg (by omega), e7]
      simp only [RW_k hk, e8]
      refine ⟨(by first | omega | (unfold i32; omega)), ?_⟩
      rintro m151 e151
      obtain ⟨r9, h9', rfl⟩ := RWs hk e151
      have e9 : r9 = bgnR row' s hand p (doneF (A 3) (A 9) row' s p) := by
        rw [h9', h8', h7', h6', h5', e4, h4', h3', h2', h1', ← e75]
        rfl
      have R9 := RowOK.bgn (hand := hand) hB.1 HO C R' hs hh ⟨hp1, hp2⟩ hw
      have w9 := bgnR_ww (done := doneF (A 3) (A 9) row' s p) hs hh ⟨hp1, hp2⟩ h1 hw
      have wp := ww_pos ⟨hp1, hp2⟩ hw
      have n9 : r9 0 = row' 0 := by
        rw [e9]; unfold bgnR
        rw [if_neg (by omega), if_neg (by omega), if_neg (by omega), if_neg (by omega), if_neg (by omega), if_neg (by omega), if_neg (by omega), if_neg (by omega), if_neg (by omega)]
      rw [show begN (A 3) (A 9) (A 10) (A 3 5).toNat s hand (kk + 1) row' p = begN (A 3) (A 9) (A 10) (A 3 5).toNat s hand kk (bgnR row' s hand p (doneF (A 3) (A 9) row' s p)) (if doneF (A 3) (A 9) row' s p ≤ row' 0 then nxN (A 9) (A 10) (bgnR row' s hand p (doneF (A 3) (A 9) row' s p)) s (A 3 5).toNat else -2) from if_neg c, ← e9, ← e75] at hbeg
      rw [← e9] at R9 w9
      refine ⟨fun c5 => hK (ww r9).toNat _ _ _ (by omega) ⟨r9, kk, rfl, R9, n9.symm, Or.inl rfl, rfl, by omega, ?_⟩, fun c5 => t_nextFor hk HO C (hr R9) hs (fun _ => hK (ww r9).toNat _ _ _ (by omega) ⟨r9, kk, rfl, R9, n9.symm, ?_, rfl, by omega, ?_⟩)⟩
      · rw [if_neg (by omega)] at hbeg; exact hbeg
      · rcases nxN_b (A 9) (A 10) r9 s (A 3 5).toNat with z | z
        · exact Or.inl z
        · exact Or.inr ⟨z.1, by omega, z.2.2⟩
      · rw [if_pos c5] at hbeg; exact hbeg
  · rcases nxN_b (A 9) (A 10) row s (A 3 5).toNat with z | z
    · exact Or.inl z
    · exact Or.inr ⟨z.1, by omega, z.2.2⟩
  · have := ww_b row; omega
end EV
