/-! LAYER 2: what the component's bar says of itself -/
theorem ones_st : ∀ x : Nat, x < 1024 → x ≠ 0 → onesF (bAnd x ((x : Int) - 1)) = onesF x - 1 ∧ 0 ≤ bAnd (x : Int) ((x : Int) - 1) ∧ bAnd (x : Int) ((x : Int) - 1) < x := by
  have key : (List.range 1024).all (fun x => decide (x ≠ 0 → onesF (bAnd x ((x : Int) - 1)) = onesF x - 1 ∧ 0 ≤ bAnd (x : Int) ((x : Int) - 1) ∧ bAnd (x : Int) ((x : Int) - 1) < x)) = true := by decide +kernel
  intro x hx
  exact of_decide_eq_true (List.all_eq_true.mp key x (List.mem_range.mpr hx))
theorem ones_0 : onesF 0 = 0 := by decide +kernel
theorem bor_rg : ∀ v : Nat, v < 1024 → ∀ x : Nat, x < 10 → 0 ≤ bOr (v : Int) (bShl 1 (x : Int)) ∧ bOr (v : Int) (bShl 1 (x : Int)) < 1024 := by
  have key : (List.range 1024).all (fun v => (List.range 10).all (fun x => decide (0 ≤ bOr (v : Int) (bShl 1 (x : Int)) ∧ bOr (v : Int) (bShl 1 (x : Int)) < 1024))) = true := by decide +kernel
  intro v hv x hx
  exact of_decide_eq_true (List.all_eq_true.mp (List.all_eq_true.mp key v (List.mem_range.mpr hv)) x (List.mem_range.mpr hx))
theorem pasN_rg {q e : Int → Int} {p : Int} : ∀ k : Nat, (∀ j : Nat, j < k → 0 ≤ e (2 + j) ∧ e (2 + j) < 10) → 0 ≤ pasN q e p k ∧ pasN q e p k < 1024
  | 0, _ => by unfold pasN; omega
  | k + 1, h => by
    have ih := pasN_rg (q := q) (p := p) k (fun j hj => h j (by omega))
    have hx := h k (by omega)
    by_cases c : pasT q e p (e (2 + k))
    · rw [show pasN q e p (k + 1) = bOr (pasN q e p k) (bShl 1 (e (2 + k))) from if_pos c]
      have := bor_rg (pasN q e p k).toNat (by omega) (e (2 + k)).toNat (by omega)
      rw [Int.toNat_of_nonneg ih.1, Int.toNat_of_nonneg hx.1] at this
      exact this
    · rw [show pasN q e p (k + 1) = pasN q e p k from if_neg c]; exact ih
theorem pasF_rg {q e : Int → Int} {n : Nat} {p tb : Int} (hn : n ≤ 10) (W : WI e n tb) : 0 ≤ pasF q e p ∧ pasF q e p < 1024 := by
  have nu := W.num
  have sl := (stK_le e p (e 1).toNat).1
  exact pasN_rg _ (fun j hj => by have := W.rng j (by omega) (by omega); omega)
theorem pasN_0 {q e : Int → Int} {p : Int} : ∀ k : Nat, (∀ j : Nat, j < k → ¬ pasT q e p (e (2 + j))) → pasN q e p k = 0
  | 0, _ => rfl
  | k + 1, h => by
    rw [show pasN q e p (k + 1) = pasN q e p k from if_neg (h k (by omega))]
    exact pasN_0 k (fun j hj => h j (by omega))
/-- nobody has passed one who has not come -/
theorem pasF_away {q e : Int → Int} {n : Nat} {p : Int} (HH : HI q e n) (hp : 0 ≤ p ∧ p < n) (hd : e (12 + 8 * p + 0) = 0) : pasF q e p = 0 := by
  obtain ⟨P, W⟩ := HH
  have nu := W.num
  have sl := (stK_le e p (e 1).toNat).1
  have a := (P p hp.1 hp.2).away hd
  refine pasN_0 _ (fun j hj z => ?_)
  have b := (W.isb j (by omega) (by omega)).2
  have := z.2.1
  omega
theorem c_bits {x : Int} (hx : 0 ≤ x ∧ x < 1024) {Q : Int → Hp → Prop} {H : Hp} (hq : Q (onesF x) H) : g_X1_bits x Q H := by
  unfold g_X1_bits
  have bx := onesF_b x
  refine Lp2_ind (k := x.toNat) (fun m n y h' => m = y.toNat ∧ (0 ≤ y ∧ y < 1024) ∧ n + onesF y = onesF x ∧ 0 ≤ n ∧ h' = H) ?_ ⟨rfl, hx, by omega, by omega, rfl⟩
  rintro m n y h' ⟨rfl, hy, hn, h0, rfl⟩ K hK
  unfold g_X1_bits_L4 g_X1_bits_b20
  have by' := onesF_b y
  refine ⟨fun c => ?_, fun c => ⟨(by first | omega | (unfold i32; omega)), ?_⟩⟩
  · rw [c, ones_0] at hn
    rw [show n = onesF x by omega]; exact hq
  · rintro y8 rfl
    refine ⟨(by first | omega | (unfold i32; omega)), ?_⟩
    rintro y16 rfl
    have st := ones_st y.toNat (by omega) (by omega)
    rw [Int.toNat_of_nonneg hy.1] at st
    exact hK (bAnd y (y - 1)).toNat _ _ _ (by omega) ⟨rfl, ⟨st.2.1, by omega⟩, by omega, by omega, rfl⟩
section B
variable {h : Hp} {b o hb : Int} {r c q row : Int → Int} {cm : Nat} {F : Nat → Int} {A : Int → Int → Int} {Q : Int → Hp → Prop} {Qv : Hp → Prop} {B : Int}
def fatC (e : Int → Int) (p : Int) : Int := if e (12 + 8 * p + 0) = 0 then 5 else fateF e p
def waiC (q e : Int → Int) (bell p : Int) : Int := if e (12 + 8 * p + 0) = 0 then 0 else waitF q e bell p
theorem c_fate (E : BE h b o hb r c q cm) (V : BR h b o r c q row cm F A) {t1 p : Int} (hp : 0 ≤ p ∧ p < r 5) (P : PI q row p t1) (hq : Q (fatC row p) (blk h b 21 F A)) : g_X21_fate b p Q (blk h b 21 F A) := by
  have hn := E.ho.pm
  have d := P.does
  unfold fatC fateF at hq
  unfold g_X21_fate g_X21_fate_b63
  simp only [ba_1, ba_7]
  rw [V.does p hp.1 hp.2, V.whom p hp.1 hp.2]
  refine ⟨(by first | omega | (unfold i32; omega)), fun c5 => ⟨(by first | omega | (unfold i32; omega)), fun c4 => ⟨(by first | omega | (unfold i32; omega)), fun c1 => ⟨(by first | omega | (unfold i32; omega)), fun c0 => ⟨(by first | omega | (unfold i32; omega)), fun w => ?_, fun w => ?_⟩, fun c0 => ?_⟩, fun c1 => ?_⟩, fun c4 => ?_⟩, fun c5 => ?_⟩
  · by_cases c2 : row (12 + 8 * p + 0) = 2
    · rw [if_neg c0, if_pos c2] at hq; exact hq
    · exact absurd (P.whom c2) w
  · have c3 : row (12 + 8 * p + 0) = 3 := by
      by_cases c2 : row (12 + 8 * p + 0) = 2
      · have := P.bgn c2; omega
      · omega
    rw [if_neg c0, if_neg (by omega), if_pos c3, if_pos (P.fin (by omega)).1] at hq; exact hq
  · rw [if_pos c0] at hq; exact hq
  · rw [if_neg (by omega), if_neg (by omega), if_neg (by omega), if_neg (by omega), if_neg (by omega)] at hq; exact hq
  · rw [if_neg (by omega), if_neg (by omega), if_neg (by omega), if_pos c4] at hq; exact hq
  · rw [if_neg (by omega), if_neg (by omega), if_neg (by omega), if_neg (by omega), if_pos c5] at hq; exact hq
theorem c_hasIt (E : BE h b o hb r c q cm) (V : BR h b o r c q row cm F A) {t1 p : Int} (hp : 0 ≤ p ∧ p < r 5) (P : PI q row p t1) (hq : Q (if fatC row p < 2 then 1 else 0) (blk h b 21 F A)) : g_X21_hasIt b p Q (blk h b 21 F A) := by
  unfold g_X21_hasIt g_X21_hasIt_b14
  refine c_fate E V hp P (fun _ => ⟨fun c => ⟨Or.inl rfl, ?_⟩, fun c => ⟨Or.inr rfl, ?_⟩⟩)
  · rw [if_neg (by omega)] at hq; exact hq
  · rw [if_pos c] at hq; exact hq
theorem c_waits (E : BE h b o hb r c q cm) (V : BR h b o r c q row cm F A) {t1 p : Int} (hbl : 0 ≤ F 26 ∧ F 26 ≤ 900) (hp : 0 ≤ p ∧ p < r 5) (P : PI q row p t1) (hq : Q (waiC q row (F 26) p) (blk h b 21 F A)) : g_X21_waits b p Q (blk h b 21 F A) := by
  have hn := E.ho.pm
  have d := P.does
  have Hh := E.hou (F := F) (A := A)
  have qr := E.qr p hp.1 hp.2
  have qb := E.pe.comes p hp.1 (by omega)
  have vw := V.wait p hp.1 hp.2
  unfold waiC waitF fateF at hq
  unfold g_X21_waits g_X21_waits_b69
  simp only [ba_1, ba_9, blk_F]
  rw [V.does p hp.1 hp.2, V.house]
  refine ⟨(by first | omega | (unfold i32; omega)), fun c5 => ⟨(by first | omega | (unfold i32; omega)), fun c1 => ⟨(by first | omega | (unfold i32; omega)), fun c0 => ⟨(by first | omega | (unfold i32; omega)), ?_⟩, fun c0 => ?_⟩, fun c1 => ⟨Hh.lay, Hh.per hp (fun Pp _ => ⟨Pp.1, ?_⟩)⟩⟩, fun c5 => ?_⟩
  · rw [vw (by omega) (by omega)]
    rw [if_neg c0] at hq
    by_cases c2 : row (12 + 8 * p + 0) = 2
    · have w := P.bgn c2
      rw [if_pos c2, if_neg (by omega), if_pos w.1] at hq
      rw [if_pos c2]; exact hq
    · have w := P.fin (by omega)
      rw [if_neg c2]
      by_cases c3 : row (12 + 8 * p + 0) = 3
      · rw [if_neg c2, if_pos c3, if_pos w.1, if_neg (by omega), if_neg (fun z => z w.1), if_pos w.2.1] at hq; exact hq
      · rw [if_neg c2, if_neg c3, if_pos (show row (12 + 8 * p + 0) = 4 by omega), if_neg (by omega), if_neg (fun z => z w.1), if_pos w.2.1] at hq; exact hq
  · rw [if_pos c0] at hq; exact hq
  · have w := P.wait c1
    rw [Pp.2.2.1, ← qr.1]
    rw [if_neg (by omega), if_neg (by omega), if_neg (fun z => z w.1), if_neg (fun z => z w.2.1)] at hq
    exact ⟨(by first | omega | (unfold i32; omega)), hq⟩
  · rw [if_neg (by omega), if_pos (by omega)] at hq; exact hq
theorem waitF_0 {q e : Int → Int} {bell p : Int} (P : PI q e p (e 0)) (hb1 : e 0 ≤ bell + 1) (hd : e (12 + 8 * p + 0) ≠ 0) (hf : fateF e p ≠ 4) : 0 ≤ waitF q e bell p := by
  have d := P.does
  unfold waitF
  rw [if_neg hf]
  by_cases c1 : e (12 + 8 * p + 0) = 1
  · have w := P.wait c1
    rw [if_neg (fun z => z w.1), if_neg (fun z => z w.2.1)]; omega
  · by_cases c2 : e (12 + 8 * p + 0) = 2
    · have w := P.bgn c2
      rw [if_pos w.1]; omega
    · have w := P.fin (by omega)
      rw [if_neg (fun z => z w.1), if_pos w.2.1]; omega
theorem c_sum (E : BE h b o hb r c q cm) (V : BR h b o r c q row cm F A) (R : RowOK B row) (HH : HI q row (r 5).toNat) (hB : 10000 ≤ B ∧ B ≤ 100000) {what : Int} (hbl : 0 ≤ F 26 ∧ F 26 ≤ 900) (hn1 : row 0 ≤ F 26 + 1) (hq : Q (sumF r q row (F 26) what) (blk h b 21 F A)) : g_X21_sum b what Q (blk h b 21 F A) := by
  have hn := E.ho.pm
  have hn5 : (r 5).toNat ≤ 10 := by omega
  have Hh := E.hou (F := F) (A := A)
  have hT : ∀ p : Int, 0 ≤ p → p < 10 → -110000 ≤ sumT r q row (F 26) what p ∧ sumT r q row (F 26) what p ≤ 110000 := by
    intro p p1 p2
    have h1 := waitF_b (bell := F 26) hB E.pe R hbl ⟨p1, p2⟩
    have h2 := onesF_b (pasF q row p)
    have h3 := costF_b E.ho ⟨p1, p2⟩
    unfold sumT
    repeat' split
    all_goals omega
  unfold g_X21_sum
  refine Lp2_for (r 5).toNat 0 (sumN (fun p => sumT r q row (F 26) what p)) (fun _ => blk h b 21 F A) (fun K j hj hK => ?_) (fun K => ?_)
  · have hp : 0 ≤ (j : Int) ∧ (j : Int) < r 5 := ⟨by omega, by omega⟩
    have P := HH.1 j hp.1 (by omega)
    have d := P.does
    have hs := sumN_ab (f := fun p => sumT r q row (F 26) what p) (B := 110000) j (fun i hi => hT i (by omega) (by omega))
    have ht := hT j (by omega) (by omega)
    have fb := fateF_b row j
    rw [Int.zero_add]
    have fin : ∀ v : Int, v = sumN (fun p => sumT r q row (F 26) what p) j + sumT r q row (F 26) what j → g_X21_sum_b160 b what Q K v j (blk h b 21 F A) := by
      intro v hv
      unfold g_X21_sum_b160
      exact ⟨(by first | omega | (unfold i32; omega)), fun y ey => hK _ _ _ hv (by omega) rfl⟩
    have aw : row (12 + 8 * (j : Int) + 0) = 0 → sumT r q row (F 26) what j = 0 := fun z => by unfold sumT; rw [if_pos z]
    have s0 : row (12 + 8 * (j : Int) + 0) ≠ 0 → sumT r q row (F 26) what j = if what = 0 then (if fateF row j < 2 then 1 else 0) else if what = 1 then (if fateF row j = 2 then 1 else 0) else if what = 2 then (if fateF row j = 3 then 1 else 0) else if what = 3 then (if fateF row j = 4 then 0 else waitF q row (F 26) j) else if what = 4 then onesF (pasF q row j) else (if fateF row j < 2 then costF r j else 0) := fun z => if_neg z
    have fc : row (12 + 8 * (j : Int) + 0) ≠ 0 → fatC row j = fateF row j := fun z => if_neg z
    have fa : row (12 + 8 * (j : Int) + 0) = 0 → fatC row j = 5 := fun z => if_pos z
    unfold g_X21_sum_L4 g_X21_sum_b62 g_X21_sum_b82 g_X21_sum_b102 g_X21_sum_b158
    simp only [blk_F, ba_10]
    rw [V.pn, V.pass j hp.1 hp.2]
    refine ⟨fun c => absurd c (by omega), fun c => ⟨fun c2 => c_hasIt E V hp P (fun _ => ⟨fun c3 => ?_, fun c3 => ?_⟩), fun c2 => c_fate E V hp P (fun _ => ⟨fun c3 => ?_, fun c3 => ?_⟩), fun c2 => c_fate E V hp P (fun _ => ⟨fun c3 => ?_, fun c3 => ?_⟩), fun c2 => c_waits E V hbl hp P (fun _ => ?_), fun c2 => ⟨(by first | omega | (unfold i32; omega)), c_bits (pasF_rg hn5 HH.2) (fun _ => ?_)⟩, fun c2 => c_hasIt E V hp P (fun _ => ⟨fun c3 => ?_, fun c3 => ?_⟩)⟩⟩
    · have c3 := zero_of c3
      have e : sumT r q row (F 26) what j = 0 := by
        by_cases z : row (12 + 8 * (j : Int) + 0) = 0
        · exact aw z
        · rw [s0 z, if_pos c2]; rw [fc z] at c3; exact if_neg c3
      refine ⟨(by first | omega | (unfold i32; omega)), ?_⟩; rintro y rfl; exact fin _ (by omega)
    · have c3 := one_of c3
      have z : row (12 + 8 * (j : Int) + 0) ≠ 0 := fun z => by rw [fa z] at c3; omega
      have e : sumT r q row (F 26) what j = 1 := by rw [s0 z, if_pos c2]; rw [fc z] at c3; exact if_pos c3
      refine ⟨(by first | omega | (unfold i32; omega)), ?_⟩; rintro y rfl; exact fin _ (by omega)
    · have e : sumT r q row (F 26) what j = 0 := by
        by_cases z : row (12 + 8 * (j : Int) + 0) = 0
        · exact aw z
        · rw [s0 z, if_neg (by omega), if_pos c2]; rw [fc z] at c3; exact if_neg c3
      refine ⟨(by first | omega | (unfold i32; omega)), ?_⟩; rintro y rfl; exact fin _ (by omega)
    · have z : row (12 + 8 * (j : Int) + 0) ≠ 0 := fun z => by rw [fa z] at c3; omega
      have e : sumT r q row (F 26) what j = 1 := by rw [s0 z, if_neg (by omega), if_pos c2]; rw [fc z] at c3; exact if_pos c3
      refine ⟨(by first | omega | (unfold i32; omega)), ?_⟩; rintro y rfl; exact fin _ (by omega)
    · have e : sumT r q row (F 26) what j = 0 := by
        by_cases z : row (12 + 8 * (j : Int) + 0) = 0
        · exact aw z
        · rw [s0 z, if_neg (by omega), if_neg (by omega), if_pos c2]; rw [fc z] at c3; exact if_neg c3
      refine ⟨(by first | omega | (unfold i32; omega)), ?_⟩; rintro y rfl; exact fin _ (by omega)
    · have z : row (12 + 8 * (j : Int) + 0) ≠ 0 := fun z => by rw [fa z] at c3; omega
      have e : sumT r q row (F 26) what j = 1 := by rw [s0 z, if_neg (by omega), if_neg (by omega), if_pos c2]; rw [fc z] at c3; exact if_pos c3
      refine ⟨(by first | omega | (unfold i32; omega)), ?_⟩; rintro y rfl; exact fin _ (by omega)
    · have e : sumT r q row (F 26) what j = (if 0 < waiC q row (F 26) j then waiC q row (F 26) j else 0) := by
        by_cases z : row (12 + 8 * (j : Int) + 0) = 0
        · rw [aw z, show waiC q row (F 26) j = 0 from if_pos z]; rfl
        · rw [s0 z, if_neg (by omega), if_neg (by omega), if_neg (by omega), if_pos c2, show waiC q row (F 26) j = waitF q row (F 26) j from if_neg z]
          by_cases y : fateF row j = 4
          · rw [if_pos y, show waitF q row (F 26) j = -2 from if_pos y]; rfl
          · have w := waitF_0 P hn1 z y
            rw [if_neg y]
            split <;> omega
      rw [← e]
      refine ⟨(by first | omega | (unfold i32; omega)), ?_⟩; rintro y rfl; exact fin _ rfl
    · have e : sumT r q row (F 26) what j = onesF (pasF q row j) := by
        by_cases z : row (12 + 8 * (j : Int) + 0) = 0
        · rw [aw z, pasF_away HH ⟨hp.1, by omega⟩ z, ones_0]
        · rw [s0 z, if_neg (by omega), if_neg (by omega), if_neg (by omega), if_neg (by omega), if_pos c2]
      rw [← e]
      refine ⟨(by first | omega | (unfold i32; omega)), ?_⟩; rintro y rfl; exact fin _ rfl
    · have c3 := zero_of c3
      have e : sumT r q row (F 26) what j = 0 := by
        by_cases z : row (12 + 8 * (j : Int) + 0) = 0
        · exact aw z
        · rw [s0 z, if_neg c2.1, if_neg c2.2.1, if_neg c2.2.2.1, if_neg c2.2.2.2.1, if_neg c2.2.2.2.2]; rw [fc z] at c3; exact if_neg c3
      refine ⟨(by first | omega | (unfold i32; omega)), ?_⟩; rintro y rfl; exact fin _ (by omega)
    · have c3 := one_of c3
      have z : row (12 + 8 * (j : Int) + 0) ≠ 0 := fun z => by rw [fa z] at c3; omega
      have e : sumT r q row (F 26) what j = costF r j := by
        rw [s0 z, if_neg c2.1, if_neg c2.2.1, if_neg c2.2.2.1, if_neg c2.2.2.2.1, if_neg c2.2.2.2.2]; rw [fc z] at c3; exact if_pos c3
      simp only [blk_F]
      rw [V.house]
      refine ⟨Hh.lay, hs_costs E.ho Hh hp (fun _ => ?_)⟩
      rw [← e]
      refine ⟨(by first | omega | (unfold i32; omega)), ?_⟩; rintro y rfl; exact fin _ rfl
  · unfold g_X21_sum_L4 g_X21_sum_b166
    simp only [blk_F]
    rw [V.pn]
    exact ⟨fun _ => hq, fun c => absurd c (by omega)⟩
theorem c_doesNow (E : BE h b o hb r c q cm) (V : BR h b o r c q row cm F A) {p : Int} (hp : 0 ≤ p ∧ p < r 5) (hq : Q (if row (12 + 8 * p + 0) = 2 ∧ row (12 + 8 * p + 5) ≤ row 0 then 3 else row (12 + 8 * p + 0)) (blk h b 21 F A)) : g_X21_doesNow b p Q (blk h b 21 F A) := by
  have hn := E.ho.pm
  unfold g_X21_doesNow g_X21_doesNow_b27 g_X21_doesNow_b33
  simp only [ba_1, ba_8, blk_F]
  rw [V.does p hp.1 hp.2, V.had p hp.1 hp.2, V.now]
  refine ⟨(by first | omega | (unfold i32; omega)), fun c1 => ⟨(by first | omega | (unfold i32; omega)), ?_⟩, fun c1 => ⟨(by first | omega | (unfold i32; omega)), fun c2 => ⟨(by first | omega | (unfold i32; omega)), ?_⟩, fun c2 => ?_⟩⟩
  · rw [if_neg (fun z => c1 z.1)] at hq; exact hq
  · rw [if_neg (by omega)] at hq; exact hq
  · rw [if_pos ⟨c1, c2⟩] at hq; exact hq
theorem c_busyHands (E : BE h b o hb r c q cm) (V : BR h b o r c q row cm F A) {s : Int} (hs : 0 ≤ s ∧ s < cm) (hq : Q (busN row s (c (6 * s + 5)).toNat) (blk h b 21 F A)) : g_X21_busyHands b s Q (blk h b 21 F A) := by
  have h4 := E.cm4
  have hh := E.cr.hands s hs.1 (by omega)
  unfold g_X21_busyHands
  refine Lp2_for (c (6 * s + 5)).toNat 0 (fun j => busN row s j) (fun _ => blk h b 21 F A) (fun K j hj hK => ?_) (fun K => ?_)
  · have bb : 0 ≤ busN row s j ∧ busN row s j ≤ j := sumN_01 j (fun i hi => by (try dsimp only); split <;> omega)
    have e1 : busN row s (j + 1) = busN row s j + (if row 0 < row (92 + 4 * s + (1 + j)) then 1 else 0) := rfl
    rw [Int.zero_add]
    unfold g_X21_busyHands_L4 g_X21_busyHands_b37
    simp only [ba_19, ba_20, blk_F]
    rw [V.hands s hs.1 hs.2, V.busy s j hs.1 hs.2 (by omega) (by omega), V.now]
    refine ⟨(by first | omega | (unfold i32; omega)), fun z => absurd z (by omega), fun _ => ⟨(by first | omega | (unfold i32; omega)), (by first | omega | (unfold i32; omega)), (by first | omega | (unfold i32; omega)), fun z => ⟨(by first | omega | (unfold i32; omega)), ?_⟩, fun z => ⟨(by first | omega | (unfold i32; omega)), ?_⟩⟩⟩
    · rintro y rfl
      exact ⟨(by first | omega | (unfold i32; omega)), fun y ey => hK _ _ _ (by rw [e1, if_neg (by omega)]) (by omega) rfl⟩
    · rintro y rfl
      exact ⟨(by first | omega | (unfold i32; omega)), fun y ey => hK _ _ _ (by rw [e1, if_pos z]) (by omega) rfl⟩
  · unfold g_X21_busyHands_L4 g_X21_busyHands_b45
    simp only [ba_19]
    rw [V.hands s hs.1 hs.2]
    exact ⟨(by first | omega | (unfold i32; omega)), fun _ => hq, fun z => absurd z (by omega)⟩
theorem c_firstFree (E : BE h b o hb r c q cm) (V : BR h b o r c q row cm F A) (R : RowOK B row) (hB : B ≤ 100000) {s : Int} (hs : 0 ≤ s ∧ s < cm) (h1 : 1 ≤ c (6 * s + 5)) (hq : Q (if lstN row s (c (6 * s + 5)).toNat ≤ row 0 then row 0 else lstN row s (c (6 * s + 5)).toNat) (blk h b 21 F A)) : g_X21_firstFree b s Q (blk h b 21 F A) := by
  have h4 := E.cm4
  have hh := E.cr.hands s hs.1 (by omega)
  have b1 := R.cells (92 + 4 * s + (1 + (0 : Int)))
  have e0 := V.busy s 0 hs.1 hs.2 (by omega) (by omega)
  rw [Int.add_zero] at e0
  unfold g_X21_firstFree
  simp only [ba_20]
  rw [e0]
  refine ⟨(by first | omega | (unfold i32; omega)), (by first | omega | (unfold i32; omega)), ?_⟩
  rintro y8 rfl
  have l1 : lstN row s 1 = row (92 + 4 * s + (1 + 0)) := by
    show (if row (92 + 4 * s + (1 + ((0 : Nat) : Int))) < 1000000 then row (92 + 4 * s + (1 + ((0 : Nat) : Int))) else 1000000) = _
    rw [show ((0 : Nat) : Int) = 0 from rfl, if_pos (by omega)]
  rw [← l1]
  refine Lp2_for ((c (6 * s + 5)).toNat - 1) 1 (fun j => lstN row s (j + 1)) (fun _ => blk h b 21 F A) (fun K j hj hK => ?_) (fun K => ?_)
  · have e1 : lstN row s (j + 1 + 1) = if row (92 + 4 * s + (1 + ((j + 1 : Nat) : Int))) < lstN row s (j + 1) then row (92 + 4 * s + (1 + ((j + 1 : Nat) : Int))) else lstN row s (j + 1) := rfl
    unfold g_X21_firstFree_L11
    simp only [ba_19, ba_20]
    rw [V.hands s hs.1 hs.2, V.busy s (1 + j) hs.1 hs.2 (by omega) (by omega)]
    refine ⟨(by first | omega | (unfold i32; omega)), fun z => absurd z (by omega), fun _ => ⟨(by first | omega | (unfold i32; omega)), (by first | omega | (unfold i32; omega)), (by first | omega | (unfold i32; omega)), ?_⟩⟩
    rintro y35 rfl
    refine ⟨(by first | omega | (unfold i32; omega)), fun y ey => hK _ _ _ ?_ (by omega) rfl⟩
    rw [e1, show ((j + 1 : Nat) : Int) = 1 + (j : Int) by omega]
  · unfold g_X21_firstFree_L11 g_X21_firstFree_b42
    simp only [ba_19, blk_F]
    rw [V.hands s hs.1 hs.2, V.now, show (c (6 * s + 5)).toNat - 1 + 1 = (c (6 * s + 5)).toNat by omega]
    refine ⟨(by first | omega | (unfold i32; omega)), fun _ => ?_, fun z => absurd z (by omega)⟩
    by_cases z : lstN row s (c (6 * s + 5)).toNat ≤ row 0
    · rw [if_neg (by omega)]; rw [if_pos z] at hq; exact hq
    · rw [if_pos (by omega)]; rw [if_neg z] at hq; exact hq
end B
