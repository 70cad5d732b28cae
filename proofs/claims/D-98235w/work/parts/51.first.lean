/-! LAYER 2: how it is at first, in the twin -/
def lfW (q row : Int → Int) (p : Int) : Int → Int :=
  upI (upI (upI (upI (upI (upI (upI row (12 + 8 * p + 1) (q (7 * p + 3))) (12 + 8 * p + 2) (q (7 * p + 5))) (12 + 8 * p + 3) (saysF q p)) (12 + 8 * p + 4) (-2)) (12 + 8 * p + 5) (-2)) (12 + 8 * p + 6) (-2)) (12 + 8 * p + 7) (-2)
def lfP (q : Int → Int) : Nat → (Int → Int)
  | 0 => fun _ => 0
  | p + 1 => lfW q (lfP q p) p
def lfS (q c : Int → Int) (n : Nat) : Nat → (Int → Int)
  | 0 => lfP q n
  | s + 1 => upI (lfS q c n s) (92 + 4 * s) (c (6 * s + 1))
theorem RowOK.up7 {B : Int} {row : Int → Int} {w v p : Int} (R : RowOK B row) (hp : 0 ≤ p ∧ p < 10) (hv : -B ≤ v ∧ v ≤ B) (hw : 4 ≤ w ∧ w ≤ 7) : RowOK B (upI row (12 + 8 * p + w) v) := by
  have keep : ∀ j : Int, j ≠ 12 + 8 * p + w → upI row (12 + 8 * p + w) v j = row j := fun j hj => if_neg hj
  refine ⟨by rw [keep 0 (by omega)]; exact R.now, fun j => ?_, fun q q1 q2 => ?_, fun s s1 s2 => ?_, fun s s1 s2 => ?_, by rw [keep 1 (by omega)]; exact R.served, ?_, fun q q1 q2 => ?_, fun q q1 q2 => ?_, fun j hj => by rw [keep j (by omega)]; exact R.out j hj⟩
  · have := R.cells j
    unfold upI; split <;> omega
  · rw [keep _ (by omega)]; exact R.place q q1 q2
  · rw [keep _ (by omega)]; exact R.stands s s1 s2
  · rw [keep _ (by omega)]; exact R.last s s1 s2
  · rw [keep 1 (by omega)]
    have := cw_le (a := upI row (12 + 8 * p + w) v) (b := row) (fun q q1 q2 z => by rw [keep _ (by omega)] at z; exact z)
    have := R.room
    omega
  · rw [keep _ (by omega)]; exact R.who q q1 q2
  · rw [keep _ (by omega)]; exact R.does q q1 q2
theorem row0_ok {B : Int} (hB : 10000 ≤ B) : RowOK B (fun _ => 0) := by
  have w : ∀ n : Int, 0 ≤ n → (0 : Int) ≤ 0 ∧ (0 : Int) ≤ n := fun n h => ⟨Int.le_refl 0, h⟩
  refine ⟨w 901 (by decide), fun _ => ⟨by show -B ≤ 0; omega, by show 0 ≤ B; omega⟩, fun _ _ _ => w 19 (by decide), fun _ _ _ => w 19 (by decide), fun _ _ _ => w 10 (by decide), Int.le_refl 0, ?_, fun _ _ _ => ⟨Int.le_refl 0, by show (0 : Int) < 10; omega⟩, fun _ _ _ => w 5 (by decide), fun _ _ => rfl⟩
  have := cw_b (fun _ => 0)
  show (0 : Int) + cw (fun _ => 0) ≤ 10
  omega
theorem lfW_ok {B : Int} {q row : Int → Int} {p : Int} (hB : 10000 ≤ B) (P : PplOK q) (R : RowOK B row) (hp : 0 ≤ p ∧ p < 10) : RowOK B (lfW q row p) := by
  have h1 := P.spot p hp.1 hp.2
  have h2 := P.looks p hp.1 hp.2
  have h3 := saysF_b P hp
  unfold lfW
  exact ((((((R.up hp (by omega) (by omega)).up hp (by omega) (by omega)).up hp (by omega) (by omega)).up7 hp (by omega) (by omega)).up7 hp (by omega) (by omega)).up7 hp (by omega) (by omega)).up7 hp (by omega) (by omega)
theorem lfP_ok {B : Int} {q : Int → Int} (hB : 10000 ≤ B) (P : PplOK q) : ∀ n : Nat, n ≤ 10 → RowOK B (lfP q n)
  | 0, _ => row0_ok hB
  | n + 1, h => lfW_ok hB P (lfP_ok hB P n (by omega)) ⟨by omega, by omega⟩
theorem lfS_ok {B : Int} {q c : Int → Int} {n : Nat} (hB : 10000 ≤ B) (P : PplOK q) (C : CrewOK c) (hn : n ≤ 10) : ∀ s : Nat, s ≤ 4 → RowOK B (lfS q c n s)
  | 0, _ => lfP_ok hB P n hn
  | s + 1, h => (lfS_ok hB P C hn s (by omega)).up4 hB ⟨by omega, by omega⟩ (C.stands s (by omega) (by omega))
section EV
variable {h : Hp} {M : Int} {F : Nat → Int} {A : Int → Int → Int} {e : Int → Int} {Q : Int → Hp → Prop} {Qv : Hp → Prop} {B : Int}
theorem t_saysFirst {k : Int} {row : Int → Int} {p : Int} (hk : k = 5 ∨ k = 6) (P : PplOK (A 10)) (hp : 0 ≤ p ∧ p < 10) (hq : Q (saysF (A 10) p) (RW h M F A k row)) : g_X4_saysFirst M p Q (RW h M F A k row) := by
  have e10 : upR A k row 10 = A 10 := upR_ne (by omega)
  exact s_saysFirst (A := upR A k row) (by rw [e10]; exact P) hp (by rw [e10]; exact hq)
theorem t_layFirst {row : Int → Int} (hO : ∀ j : Int, j < 0 ∨ 108 ≤ j → row j = 0) (HO : HouseOK (A 3)) (C : CrewOK (A 9)) (P : PplOK (A 10)) (hc : 0 ≤ F 25 ∧ F 25 ≤ 4)
    (hq : Qv (RW h M F A 5 (lfS (A 10) (A 9) (A 3 5).toNat (F 25).toNat))) : g_X4_layFirst M (M + 5) Qv (RW h M F A 5 row) := by
  have hk : (5 : Int) = 5 ∨ (5 : Int) = 6 := Or.inl rfl
  have hn := HO.pm
  unfold g_X4_layFirst
  have e0 : row = (fun t => if 0 ≤ t ∧ t < ((0 : Nat) : Int) then 0 else row t) := by funext t; rw [if_neg (by omega)]
  have h0 : Lp1 (g_X4_layFirst_L2 M (M + 5) Qv) 0 (RW h M F A 5 (fun t => if 0 ≤ t ∧ t < ((0 : Nat) : Int) then 0 else row t)) := by
    refine Lp1_for 108 0 (fun i => RW h M F A 5 (fun t => if 0 ≤ t ∧ t < (i : Int) then 0 else row t)) (fun K i hi hK => ?_) (fun K => ?_)
    · rw [Int.zero_add]
      unfold g_X4_layFirst_L2
      refine ⟨fun z => absurd z (by omega), fun _ => ⟨(by first | omega | (unfold i32; omega)), ?_⟩⟩
      rintro m11 e11
      obtain ⟨r1, h1, rfl⟩ := RWs hk e11
      refine ⟨(by first | omega | (unfold i32; omega)), fun y ey => hK _ _ (by omega) ?_⟩
      have e1 : r1 = (fun t => if 0 ≤ t ∧ t < ((i + 1 : Nat) : Int) then 0 else row t) := by
        rw [h1]; funext t; simp only [upI]
        by_cases z : t = i
        · rw [if_pos z, if_pos (by omega)]
        · rw [if_neg z]
          by_cases z2 : 0 ≤ t ∧ t < (i : Int)
          · rw [if_pos z2, if_pos (by omega)]
          · rw [if_neg z2, if_neg (by omega)]
      rw [e1]
    · unfold g_X4_layFirst_L2 g_X4_layFirst_b18
      refine ⟨fun _ => ?_, fun z => absurd z (by omega)⟩
      have e1 : (fun t => if 0 ≤ t ∧ t < ((108 : Nat) : Int) then 0 else row t) = lfP (A 10) 0 := by
        funext t
        show _ = (0 : Int)
        by_cases z : 0 ≤ t ∧ t < ((108 : Nat) : Int)
        · rw [if_pos z]
        · rw [if_neg z]; exact hO t (by omega)
      rw [e1]
      refine Lp1_for (A 3 5).toNat 0 (fun j => RW h M F A 5 (lfP (A 10) j)) (fun K j hj hK => ?_) (fun K => ?_)
      · have hp : 0 ≤ (j : Int) ∧ (j : Int) < 10 := ⟨by omega, by omega⟩
        rw [Int.zero_add]
        unfold g_X4_layFirst_L20
        simp only [RW_3 hk]
        refine ⟨fun z => absurd z (by omega), fun _ => ⟨(by first | omega | (unfold i32; omega)), (by first | omega | (unfold i32; omega)), ?_⟩⟩
        rintro y37 rfl
        refine ⟨(by first | omega | (unfold i32; omega)), t_man hk hp ⟨by omega, by omega⟩ (fun _ => ⟨(by first | omega | (unfold i32; omega)), ?_⟩)⟩
        rintro m48 e48
        obtain ⟨r1, h1, rfl⟩ := RWs hk e48
        refine ⟨(by first | omega | (unfold i32; omega)), t_man hk hp ⟨by omega, by omega⟩ (fun _ => ⟨(by first | omega | (unfold i32; omega)), ?_⟩)⟩
        rintro m59 e59
        obtain ⟨r2, h2, rfl⟩ := RWs hk e59
        refine ⟨(by first | omega | (unfold i32; omega)), t_saysFirst hk P hp (fun _ => ⟨(by first | omega | (unfold i32; omega)), ?_⟩)⟩
        rintro m69 e69
        obtain ⟨r3, h3, rfl⟩ := RWs hk e69
        refine ⟨(by first | omega | (unfold i32; omega)), (by first | omega | (unfold i32; omega)), ?_⟩
        rintro m76 e76
        obtain ⟨r4, h4, rfl⟩ := RWs hk e76
        refine ⟨(by first | omega | (unfold i32; omega)), (by first | omega | (unfold i32; omega)), ?_⟩
        rintro m83 e83
        obtain ⟨r5, h5, rfl⟩ := RWs hk e83
        refine ⟨(by first | omega | (unfold i32; omega)), (by first | omega | (unfold i32; omega)), ?_⟩
        rintro m91 e91
        obtain ⟨r6, h6, rfl⟩ := RWs hk e91
        refine ⟨(by first | omega | (unfold i32; omega)), (by first | omega | (unfold i32; omega)), ?_⟩
        rintro m99 e99
        obtain ⟨r7, h7, rfl⟩ := RWs hk e99
        refine ⟨(by first | omega | (unfold i32; omega)), fun y ey => hK _ _ (by omega) ?_⟩
        rw [h7, h6, h5, h4, h3, h2, h1]; rfl
      · unfold g_X4_layFirst_L20 g_X4_layFirst_b106
        simp only [RW_3 hk]
        refine ⟨fun _ => ?_, fun z => absurd z (by omega)⟩
        refine Lp1_for (F 25).toNat 0 (fun s => RW h M F A 5 (lfS (A 10) (A 9) (A 3 5).toNat s)) (fun K s hs hK => ?_) (fun K => ?_)
        · rw [Int.zero_add]
          unfold g_X4_layFirst_L108
          simp only [RW_F, RW_9 hk]
          refine ⟨fun z => absurd z (by omega), fun _ => ⟨(by first | omega | (unfold i32; omega)), (by first | omega | (unfold i32; omega)), (by first | omega | (unfold i32; omega)), (by first | omega | (unfold i32; omega)), (by first | omega | (unfold i32; omega)), (by first | omega | (unfold i32; omega)), ?_⟩⟩
          rintro m134 e134
          obtain ⟨r1, h1, rfl⟩ := RWs hk e134
          refine ⟨(by first | omega | (unfold i32; omega)), fun y ey => hK _ _ (by omega) ?_⟩
          rw [h1]; rfl
        · unfold g_X4_layFirst_L108 g_X4_layFirst_b141
          simp only [RW_F]
          exact ⟨fun _ => hq, fun z => absurd z (by omega)⟩
  rw [← e0] at h0
  exact h0
end EV
