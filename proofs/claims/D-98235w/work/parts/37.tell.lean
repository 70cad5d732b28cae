/-! LAYER 2: the twin's evenings as its calls lay them -/
def TT (h : Hp) (M : Int) : Prop := (hT h (M + 1) = 1 ∧ hL h (M + 1) = 1000) ∧ (hT h (M + 2) = 1 ∧ hL h (M + 2) = 8) ∧ (hT h (M + 3) = 1 ∧ hL h (M + 3) = 347) ∧ (hT h (M + 4) = 1 ∧ hL h (M + 4) = 347) ∧ (hT h (M + 5) = 1 ∧ hL h (M + 5) = 108) ∧ (hT h (M + 6) = 1 ∧ hL h (M + 6) = 108) ∧ (hT h (M + 7) = 1 ∧ hL h (M + 7) = 1296) ∧ (hT h (M + 8) = 1 ∧ hL h (M + 8) = 324) ∧ (hT h (M + 9) = 1 ∧ hL h (M + 9) = 24) ∧ (hT h (M + 10) = 1 ∧ hL h (M + 10) = 70) ∧ (hT h (M + 11) = 1 ∧ hL h (M + 11) = 108) ∧ (hT h (M + 12) = 1 ∧ hL h (M + 12) = 10) ∧ (hT h (M + 13) = 1 ∧ hL h (M + 13) = 7) ∧ (hT h (M + 14) = 1 ∧ hL h (M + 14) = 7) ∧ (hT h (M + 15) = 3 ∧ hL h (M + 15) = 100)
theorem TT.t1 {h : Hp} {M : Int} (H : TT h M) : hT h (M + 1) = 1 ∧ hL h (M + 1) = 1000 := H.1
theorem TT.t2 {h : Hp} {M : Int} (H : TT h M) : hT h (M + 2) = 1 ∧ hL h (M + 2) = 8 := H.2.1
theorem TT.t3 {h : Hp} {M : Int} (H : TT h M) : hT h (M + 3) = 1 ∧ hL h (M + 3) = 347 := H.2.2.1
theorem TT.t4 {h : Hp} {M : Int} (H : TT h M) : hT h (M + 4) = 1 ∧ hL h (M + 4) = 347 := H.2.2.2.1
theorem TT.t5 {h : Hp} {M : Int} (H : TT h M) : hT h (M + 5) = 1 ∧ hL h (M + 5) = 108 := H.2.2.2.2.1
theorem TT.t6 {h : Hp} {M : Int} (H : TT h M) : hT h (M + 6) = 1 ∧ hL h (M + 6) = 108 := H.2.2.2.2.2.1
theorem TT.t7 {h : Hp} {M : Int} (H : TT h M) : hT h (M + 7) = 1 ∧ hL h (M + 7) = 1296 := H.2.2.2.2.2.2.1
theorem TT.t8 {h : Hp} {M : Int} (H : TT h M) : hT h (M + 8) = 1 ∧ hL h (M + 8) = 324 := H.2.2.2.2.2.2.2.1
theorem TT.t9 {h : Hp} {M : Int} (H : TT h M) : hT h (M + 9) = 1 ∧ hL h (M + 9) = 24 := H.2.2.2.2.2.2.2.2.1
theorem TT.t10 {h : Hp} {M : Int} (H : TT h M) : hT h (M + 10) = 1 ∧ hL h (M + 10) = 70 := H.2.2.2.2.2.2.2.2.2.1
theorem TT.t11 {h : Hp} {M : Int} (H : TT h M) : hT h (M + 11) = 1 ∧ hL h (M + 11) = 108 := H.2.2.2.2.2.2.2.2.2.2.1
theorem TT.t12 {h : Hp} {M : Int} (H : TT h M) : hT h (M + 12) = 1 ∧ hL h (M + 12) = 10 := H.2.2.2.2.2.2.2.2.2.2.2.1
theorem TT.t13 {h : Hp} {M : Int} (H : TT h M) : hT h (M + 13) = 1 ∧ hL h (M + 13) = 7 := H.2.2.2.2.2.2.2.2.2.2.2.2.1
theorem TT.t14 {h : Hp} {M : Int} (H : TT h M) : hT h (M + 14) = 1 ∧ hL h (M + 14) = 7 := H.2.2.2.2.2.2.2.2.2.2.2.2.2.1
theorem TT.t15 {h : Hp} {M : Int} (H : TT h M) : hT h (M + 15) = 3 ∧ hL h (M + 15) = 100 := H.2.2.2.2.2.2.2.2.2.2.2.2.2.2
abbrev asC (r c : Int → Int) : Prop := CrewOK c ∧ ∀ j : Int, 0 ≤ j → j < 18 → c j = r (23 + j)
abbrev asP (r q : Int → Int) : Prop := PplOK q ∧ ∀ j : Int, 0 ≤ j → j < 70 → q j = r (41 + j)
theorem upR_ne {A : Int → Int → Int} {k j : Int} {f : Int → Int} (h : j ≠ k) : upR A k f j = A j := if_neg h
theorem upR_eq {A : Int → Int → Int} {k : Int} {f : Int → Int} : upR A k f k = f := if_pos rfl
theorem asC_cp {r c0 : Int → Int} (HO : HouseOK r) (C : CrewOK c0) : asC r (fun j => if 0 ≤ j ∧ j < 18 then r (23 + j) else c0 j) := by
  have key : ∀ (s i lo hi : Int), 0 ≤ s → s < 4 → 0 ≤ i → i < 6 → (s < 3 → lo ≤ r (23 + (6 * s + i)) ∧ r (23 + (6 * s + i)) ≤ hi) → lo ≤ c0 (6 * s + i) ∧ c0 (6 * s + i) ≤ hi → lo ≤ (if 0 ≤ 6 * s + i ∧ 6 * s + i < 18 then r (23 + (6 * s + i)) else c0 (6 * s + i)) ∧ (if 0 ≤ 6 * s + i ∧ 6 * s + i < 18 then r (23 + (6 * s + i)) else c0 (6 * s + i)) ≤ hi := by
    intro s i lo hi h1 h2 h3 h4 h5 h6
    by_cases e : 0 ≤ 6 * s + i ∧ 6 * s + i < 18
    · rw [if_pos e]; exact h5 (by omega)
    · rw [if_neg e]; exact h6
  refine ⟨⟨fun s h1 h2 => ?_, fun s h1 h2 => ?_, fun s h1 h2 => ?_, fun s h1 h2 => ?_, fun s h1 h2 => ?_, fun s h1 h2 => ?_⟩, fun j h1 h2 => if_pos ⟨h1, h2⟩⟩
  · exact key s 0 _ _ h1 h2 (by omega) (by omega) (HO.rule s h1) (C.rule s h1 h2)
  · exact key s 1 _ _ h1 h2 (by omega) (by omega) (HO.stands s h1) (C.stands s h1 h2)
  · exact key s 2 _ _ h1 h2 (by omega) (by omega) (HO.frm s h1) (C.frm s h1 h2)
  · exact key s 3 _ _ h1 h2 (by omega) (by omega) (HO.til s h1) (C.til s h1 h2)
  · exact key s 4 _ _ h1 h2 (by omega) (by omega) (HO.step s h1) (C.step s h1 h2)
  · exact key s 5 _ _ h1 h2 (by omega) (by omega) (HO.hands s h1) (C.hands s h1 h2)
theorem asP_cp {r q0 : Int → Int} (HO : HouseOK r) : asP r (fun j => if 0 ≤ j ∧ j < 70 then r (41 + j) else q0 j) := by
  have key : ∀ (s i lo hi : Int), 0 ≤ s → s < 10 → 0 ≤ i → i < 7 → lo ≤ r (41 + (7 * s + i)) ∧ r (41 + (7 * s + i)) ≤ hi → lo ≤ (if 0 ≤ 7 * s + i ∧ 7 * s + i < 70 then r (41 + (7 * s + i)) else q0 (7 * s + i)) ∧ (if 0 ≤ 7 * s + i ∧ 7 * s + i < 70 then r (41 + (7 * s + i)) else q0 (7 * s + i)) ≤ hi := by
    intro s i lo hi h1 h2 h3 h4 h5
    rw [if_pos (by omega)]; exact h5
  refine ⟨⟨fun s h1 h2 => ?_, fun s h1 h2 => ?_, fun s h1 h2 => ?_, fun s h1 h2 => ?_, fun s h1 h2 => ?_, fun s h1 h2 => ?_, fun s h1 h2 => ?_⟩, fun j h1 h2 => if_pos ⟨h1, h2⟩⟩
  · exact key s 0 _ _ h1 h2 (by omega) (by omega) (HO.manner s h1 h2)
  · exact key s 1 _ _ h1 h2 (by omega) (by omega) (HO.bys s h1 h2)
  · exact key s 2 _ _ h1 h2 (by omega) (by omega) (HO.comes s h1 h2)
  · exact key s 3 _ _ h1 h2 (by omega) (by omega) (HO.spot s h1 h2)
  · exact key s 4 _ _ h1 h2 (by omega) (by omega) (HO.patience s h1 h2)
  · exact key s 5 _ _ h1 h2 (by omega) (by omega) (HO.looks s h1 h2)
  · exact key s 6 _ _ h1 h2 (by omega) (by omega) (HO.shelf s h1 h2)
section EV
variable {h : Hp} {M : Int} {F : Nat → Int} {A : Int → Int → Int} {e : Int → Int} {Q : Int → Hp → Prop} {Qv : Hp → Prop} {B : Int}
/-- a copy between two of the twin's arrays -/
theorem s_copy {i j x y n : Int} (hi : 1 ≤ i ∧ i ≤ 15) (hj : 1 ≤ j ∧ j ≤ 15) (hij : i ≠ j) (hn : 0 ≤ n ∧ n ≤ 2000) (ta : hT h (M + i) = 1) (tb : hT h (M + j) = 1) (hx : 0 ≤ x ∧ x + n ≤ hL h (M + i) ∧ hL h (M + i) ≤ 2000) (hy : 0 ≤ y ∧ y + n ≤ hL h (M + j) ∧ hL h (M + j) ≤ 2000)
    (hq : Qv (blk h M 15 F (upR A j (fun t => if y ≤ t ∧ t < y + n then A i (x + (t - y)) else A j t)))) : g_X4_copy (M + i) x (M + j) y n Qv (blk h M 15 F A) := by
  refine t_copy hn ta tb (by omega) hx hy ?_
  rw [blk_putA hj.1 hj.2]
  have e : (fun t => if y ≤ t ∧ t < y + n then hA (blk h M 15 F A) (M + i) (x + (t - y)) else hA (blk h M 15 F A) (M + j) t) = (fun t => if y ≤ t ∧ t < y + n then A i (x + (t - y)) else A j t) := by
    funext t; rw [blk_A hi.1 hi.2, blk_A hj.1 hj.2]
  rw [e]; exact hq
theorem t_evening (T : TT h M) (hB : 10000 ≤ B ∧ B ≤ 100000) (HO : HouseOK (A 3)) (C : CrewOK (A 9)) (P : PplOK (A 10)) (hc : 0 ≤ F 25 ∧ F 25 ≤ 4) (hb : 0 ≤ F 26 ∧ F 26 ≤ 900) (R : RowOK B (A 5)) (hz : ∀ j : Int, j < 0 ∨ 108 ≤ j → A 6 j = 0)
    (hq : Qv (RW h M F A 6 (evF (A 3) (A 9) (A 10) (F 25).toNat (F 26) (A 5)))) : g_X4_evening M Qv (blk h M 15 F A) := by
  have hk : (6 : Int) = 5 ∨ (6 : Int) = 6 := Or.inr rfl
  have h0 := R.now
  unfold g_X4_evening
  refine s_copy (i := 5) (j := 6) (by omega) (by omega) (by omega) (by omega) T.t5.1 T.t6.1 (by rw [T.t5.2]; omega) (by rw [T.t6.2]; omega) (fun _ => ?_)
  have e1 : (fun t => if 0 ≤ t ∧ t < 0 + 108 then A 5 (0 + (t - 0)) else A 6 t) = A 5 := by
    funext t
    by_cases c : 0 ≤ t ∧ t < 0 + 108
    · rw [if_pos c, show 0 + (t - 0) = t by omega]
    · rw [if_neg c, hz t (by omega), R.out t (by omega)]
  rw [e1]
  show Lp0 (g_X4_evening_L15 M Qv) (RW h M F A 6 (A 5))
  refine Lp0_for (F 26 + 1 - A 5 0).toNat (fun j => RW h M F A 6 (secN (A 3) (A 9) (A 10) (F 25).toNat j (A 5))) (fun K j hj hK => ?_) (fun K => ?_)
  · obtain ⟨R1, e2⟩ := secN_ok (q := A 10) (cm := (F 25).toNat) hB.1 HO C (by omega) R j (by omega)
    unfold g_X4_evening_L15
    simp only [RW_F, RW_k hk, e2]
    refine ⟨fun c => absurd c (by omega), fun c => t_second hk hB HO C P hc R1 (fun _ => hK _ rfl)⟩
  · obtain ⟨R1, e2⟩ := secN_ok (q := A 10) (cm := (F 25).toNat) hB.1 HO C (by omega) R (F 26 + 1 - A 5 0).toNat (by omega)
    unfold g_X4_evening_L15 g_X4_evening_b39
    simp only [RW_F, RW_k hk, e2]
    exact ⟨fun _ => hq, fun c => absurd c (by omega)⟩
theorem evF_ok {r c q st : Int → Int} {cm : Nat} {bell : Int} (hB : 10000 ≤ B) (HO : HouseOK r) (C : CrewOK c) (hc : cm ≤ 4) (hb : 0 ≤ bell ∧ bell ≤ 900) (R : RowOK B st) : RowOK B (evF r c q cm bell st) ∧ evF r c q cm bell st 0 = if st 0 ≤ bell then bell + 1 else st 0 := by
  have h0 := R.now
  obtain ⟨R1, e1⟩ := secN_ok (q := q) hB HO C hc R (bell + 1 - st 0).toNat (by omega)
  refine ⟨R1, ?_⟩
  show secN r c q cm _ st 0 = _
  rw [e1]; split <;> omega
theorem t_sumOf {what : Int} (hB : 10000 ≤ B ∧ B ≤ 100000) (HO : HouseOK (A 3)) (P : PplOK (A 10)) (R : RowOK B e) (hb : 0 ≤ F 26 ∧ F 26 ≤ 900) (hq : Q (sumF (A 3) (A 10) e (F 26) what) (RW h M F A 6 e)) : g_X4_sumOf M what Q (RW h M F A 6 e) := by
  have hk : (6 : Int) = 5 ∨ (6 : Int) = 6 := Or.inr rfl
  have hn := HO.pm
  have hT : ∀ p : Int, 0 ≤ p → p < 10 → -110000 ≤ sumT (A 3) (A 10) e (F 26) what p ∧ sumT (A 3) (A 10) e (F 26) what p ≤ 110000 := by
    intro p p1 p2
    have h1 := waitF_b (bell := F 26) hB P R hb ⟨p1, p2⟩
    have h2 := onesF_b (pasF (A 10) e p)
    have h3 := costF_b HO ⟨p1, p2⟩
    unfold sumT
    repeat' split
    all_goals omega
  unfold g_X4_sumOf
  refine Lp2_for (A 3 5).toNat 0 (sumN (fun p => sumT (A 3) (A 10) e (F 26) what p)) (fun _ => RW h M F A 6 e) (fun K j hj hK => ?_) (fun K => ?_)
  · have hp : 0 ≤ (j : Int) ∧ (j : Int) < 10 := ⟨by omega, by omega⟩
    have hs := sumN_ab (f := fun p => sumT (A 3) (A 10) e (F 26) what p) (B := 110000) j (fun i hi => hT i (by omega) (by omega))
    have ht := hT j (by omega) (by omega)
    have fb := fateF_b e j
    rw [Int.zero_add]
    have fin : ∀ v : Int, v = sumN (fun p => sumT (A 3) (A 10) e (F 26) what p) j + sumT (A 3) (A 10) e (F 26) what j → g_X4_sumOf_b176 M what Q K v j (RW h M F A 6 e) := by
      intro v hv
      unfold g_X4_sumOf_b176
      exact ⟨(by first | omega | (unfold i32; omega)), fun y ey => hK _ _ _ hv (by omega) rfl⟩
    unfold g_X4_sumOf_L4 g_X4_sumOf_b84 g_X4_sumOf_b101 g_X4_sumOf_b118 g_X4_sumOf_b139 g_X4_sumOf_b174
    simp only [RW_3 hk]
    refine ⟨fun c => absurd c (by omega), fun c => t_fateOf hp (fun _ => t_its hk hp ⟨by omega, by omega⟩ (fun _ => ⟨fun c1 => ?_, fun c1 => fin _ (by unfold sumT; rw [if_pos c1]; omega)⟩))⟩
    have s0 : sumT (A 3) (A 10) e (F 26) what j = if what = 0 then (if fateF e j < 2 then 1 else 0) else if what = 1 then (if fateF e j = 2 then 1 else 0) else if what = 2 then (if fateF e j = 3 then 1 else 0) else if what = 3 then (if fateF e j = 4 then 0 else waitF (A 10) e (F 26) j) else if what = 4 then onesF (pasF (A 10) e j) else (if fateF e j < 2 then costF (A 3) j else 0) := if_neg c1
    refine ⟨fun c2 => ?_, fun c2 => ?_, fun c2 => ?_, fun c2 => ?_, fun c2 => ?_, fun c2 => ?_⟩
    · rw [if_pos c2] at s0
      refine ⟨fun c3 => ⟨(by first | omega | (unfold i32; omega)), ?_⟩, fun c3 => ⟨(by first | omega | (unfold i32; omega)), ?_⟩⟩
      · rw [if_neg (by omega)] at s0; rintro y rfl; exact fin _ (by omega)
      · rw [if_pos c3] at s0; rintro y rfl; exact fin _ (by omega)
    · rw [if_neg (by omega), if_pos c2] at s0
      refine ⟨fun c3 => ⟨(by first | omega | (unfold i32; omega)), ?_⟩, fun c3 => ⟨(by first | omega | (unfold i32; omega)), ?_⟩⟩
      · rw [if_neg c3] at s0; rintro y rfl; exact fin _ (by omega)
      · rw [if_pos c3] at s0; rintro y rfl; exact fin _ (by omega)
    · rw [if_neg (by omega), if_neg (by omega), if_pos c2] at s0
      refine ⟨fun c3 => ⟨(by first | omega | (unfold i32; omega)), ?_⟩, fun c3 => ⟨(by first | omega | (unfold i32; omega)), ?_⟩⟩
      · rw [if_neg c3] at s0; rintro y rfl; exact fin _ (by omega)
      · rw [if_pos c3] at s0; rintro y rfl; exact fin _ (by omega)
    · rw [if_neg (by omega), if_neg (by omega), if_neg (by omega), if_pos c2] at s0
      refine ⟨fun c3 => t_waitOf hB P R hb hp (fun _ => ⟨?_, ?_⟩), fun c3 => ⟨(by first | omega | (unfold i32; omega)), ?_⟩⟩
      · rw [if_neg c3] at s0; exact (by first | omega | (unfold i32; omega))
      · rw [if_neg c3] at s0; rintro y rfl; exact fin _ (by omega)
      · rw [if_pos c3] at s0; rintro y rfl; exact fin _ (by omega)
    · rw [if_neg (by omega), if_neg (by omega), if_neg (by omega), if_neg (by omega), if_pos c2] at s0
      refine t_passedOf P R hp (fun _ => t_ones (fun _ => ⟨(by first | omega | (unfold i32; omega)), ?_⟩))
      rintro y rfl; exact fin _ (by omega)
    · rw [if_neg c2.1, if_neg c2.2.1, if_neg c2.2.2.1, if_neg c2.2.2.2.1, if_neg c2.2.2.2.2] at s0
      refine ⟨fun c3 => ⟨(by first | omega | (unfold i32; omega)), ?_⟩, fun c3 => t_costsOf hk HO hp (fun _ => ⟨?_, ?_⟩)⟩
      · rw [if_neg (by omega)] at s0; rintro y rfl; exact fin _ (by omega)
      · rw [if_pos c3] at s0; exact (by first | omega | (unfold i32; omega))
      · rw [if_pos c3] at s0; rintro y rfl; exact fin _ (by omega)
  · unfold g_X4_sumOf_L4 g_X4_sumOf_b182
    simp only [RW_3 hk]
    exact ⟨fun _ => hq, fun c => absurd c (by omega)⟩
theorem t_asTold (T : TT h M) (HO : HouseOK (A 3)) (C : CrewOK (A 9)) (hq : ∀ c q : Int → Int, asC (A 3) c → asP (A 3) q → Qv (blk h M 15 (upN F 25 (A 3 4)) (upR (upR A 9 c) 10 q))) : g_X4_asTold M Qv (blk h M 15 F A) := by
  unfold g_X4_asTold
  simp only [tw_3, blk_setF]
  rintro m7 rfl
  refine s_copy (i := 3) (j := 9) (by omega) (by omega) (by omega) (by omega) T.t3.1 T.t9.1 (by rw [T.t3.2]; omega) (by rw [T.t9.2]; omega) (fun _ => ?_)
  refine s_copy (i := 3) (j := 10) (by omega) (by omega) (by omega) (by omega) T.t3.1 T.t10.1 (by rw [T.t3.2]; omega) (by rw [T.t10.2]; omega) (fun _ => ?_)
  have e1 : (fun t => if 0 ≤ t ∧ t < 0 + 18 then A 3 (23 + (t - 0)) else A 9 t) = (fun j => if 0 ≤ j ∧ j < 18 then A 3 (23 + j) else A 9 j) := by
    funext t; rw [show t - 0 = t by omega, show (0 : Int) + 18 = 18 by omega]
  have e2 : (fun t => if 0 ≤ t ∧ t < 0 + 70 then A 3 (41 + (t - 0)) else A 10 t) = (fun j => if 0 ≤ j ∧ j < 70 then A 3 (41 + j) else A 10 j) := by
    funext t; rw [show t - 0 = t by omega, show (0 : Int) + 70 = 70 by omega]
  rw [e1]
  have e3 : ∀ c : Int → Int, upR A 9 c 3 = A 3 := fun c => upR_ne (by omega)
  have e4 : ∀ c : Int → Int, upR A 9 c 10 = A 10 := fun c => upR_ne (by omega)
  simp only [e3, e4]
  rw [e2]
  exact hq _ _ (asC_cp HO C) (asP_cp HO)
end EV
