/-! LAYER 2: the twin's staff -/
def busN (st : Int → Int) (s : Int) (n : Nat) : Int := sumN (fun k => if st 0 < st (92 + 4 * s + (1 + k)) then 1 else 0) n
def lstN (st : Int → Int) (s : Int) : Nat → Int
  | 0 => 1000000
  | k + 1 => if st (92 + 4 * s + (1 + k)) < lstN st s k then st (92 + 4 * s + (1 + k)) else lstN st s k
def stfV (r st : Int → Int) (s what : Int) : Int :=
  if what = 0 then st (92 + 4 * s) else if what = 1 then busN st s (r (23 + (6 * s + 5))).toNat else if lstN st s (r (23 + (6 * s + 5))).toNat ≤ st 0 then st 0 else lstN st s (r (23 + (6 * s + 5))).toNat
section EV
variable {h : Hp} {M : Int} {F : Nat → Int} {A : Int → Int → Int} {e : Int → Int} {Q : Int → Hp → Prop} {Qv : Hp → Prop} {B : Int}
theorem p_staff {s what : Int} (T : TT h M) (hB : 10000 ≤ B ∧ B ≤ 100000) (S : Scr F A) (hH : HR B F A)
    (no : ¬ (isS F A s ∧ 0 ≤ what ∧ what ≤ 2) → ∀ F' A', Post F A 1 F' A' → Q (-1) (blk h M 15 F' A'))
    (yes : isS F A s ∧ 0 ≤ what ∧ what ≤ 2 → ∀ F' A', Post F A 0 F' A' → Q (stfV (A 3) (A 5) s what) (blk h M 15 F' A')) : g_X4_staff M s what Q (blk h M 15 F A) := by
  unfold g_X4_staff g_X4_staff_b21
  refine t_good (fun _ => t_isStaff (fun z => (hH z).1) (fun _ => ⟨fun c1 => t_no (fun _ => no (fun z => zero_of c1 z.1) _ _ (post_no S)), fun c1 => t_within (fun _ => ⟨fun c2 => ?_, fun c2 => t_no (fun _ => no (fun z => zero_of c2 z.2) _ _ (post_no S))⟩)⟩))
  have c1 : isS F A s := one_of c1
  have c2 := one_of c2
  obtain ⟨HO, R⟩ := hH c1.1
  have hs := HO.sm
  have hh := HO.hands s c1.2.1 (by omega)
  refine t_asTold T HO S.1 (fun c q hc hqq _ => ?_)
  have fin := yes ⟨c1, c2⟩ (upN (gF F) 25 (A 3 4)) (upR (upR A 9 c) 10 q) ⟨⟨⟨rfl, rfl, rfl, rfl, rfl⟩, fun j h0 h1 h2 _ _ _ _ => by rw [upN_ne h2, gF_o h0 h1], hc.1, S.2.1, show 0 ≤ A 3 4 by omega, show A 3 4 ≤ 4 by omega⟩, rfl, rfl⟩
  have e9 : c (6 * s + 5) = A 3 (23 + (6 * s + 5)) := hc.2 (6 * s + 5) (by omega) (by omega)
  refine ⟨(by first | omega | (unfold i32; omega)), (by first | omega | (unfold i32; omega)), ?_⟩
  rintro y37 rfl
  generalize hn : (A 3 (23 + (6 * s + 5))).toNat = n
  have hn2 : (n : Int) = A 3 (23 + (6 * s + 5)) := by omega
  refine Lp4_ind (k := n) (fun m a b d i h' => ∃ j : Nat, j ≤ n ∧ m = n - j ∧ i = 1 + j ∧ a = 92 + 4 * s ∧ b = busN (A 5) s j ∧ d = lstN (A 5) s j ∧ h' = blk h M 15 (upN (gF F) 25 (A 3 4)) (upR (upR A 9 c) 10 q)) ?_ ⟨0, by omega, by omega, rfl, rfl, rfl, rfl, rfl⟩
  rintro m a b d i h' ⟨j, hj, rfl, rfl, rfl, rfl, rfl, rfl⟩ K hK
  have bb : 0 ≤ busN (A 5) s j ∧ busN (A 5) s j ≤ j := sumN_01 j (fun i hi => by (try dsimp only); split <;> omega)
  unfold g_X4_staff_L49
  simp only [tw_9, tw_5]
  rw [show upR (upR A 9 c) 10 q 9 = c from rfl, show upR (upR A 9 c) 10 q 5 = A 5 from rfl, e9]
  refine ⟨(by first | omega | (unfold i32; omega)), (by first | omega | (unfold i32; omega)), (by first | omega | (unfold i32; omega)), fun c3 => ?_, fun c3 => ⟨(by first | omega | (unfold i32; omega)), (by first | omega | (unfold i32; omega)), ?_⟩⟩
  · have ej : j = n := by omega
    rw [ej]
    unfold stfV at fin
    rw [hn] at fin
    unfold g_X4_staff_b129 g_X4_staff_b174
    simp only [tw_5]
    rw [show upR (upR A 9 c) 10 q 5 = A 5 from rfl]
    refine ⟨fun c4 => ⟨fun c5 => ⟨fun c6 => ?_, fun c6 => ?_⟩, fun c5 => ?_⟩, fun c4 => ⟨(by first | omega | (unfold i32; omega)), ?_⟩⟩
    · rw [if_neg c4, if_neg c5, if_pos c6] at fin; exact fin
    · rw [if_neg c4, if_neg c5, if_neg (by omega)] at fin; exact fin
    · rw [if_neg c4, if_pos c5] at fin; exact fin
    · rw [if_pos c4] at fin; exact fin
  · have b90 : ∀ v : Int, v = (if A 5 0 < A 5 (92 + 4 * s + (1 + j)) then 1 else 0) → g_X4_staff_b90 M s what Q K (92 + 4 * s) (lstN (A 5) s j) (1 + j) (busN (A 5) s j) v (blk h M 15 (upN (gF F) 25 (A 3 4)) (upR (upR A 9 c) 10 q)) := by
      intro v hv
      have v01 : 0 ≤ v ∧ v ≤ 1 := by rw [hv]; split <;> omega
      have e1 : busN (A 5) s (j + 1) = busN (A 5) s j + v := by rw [hv]; rfl
      unfold g_X4_staff_b90 g_X4_staff_b121
      refine ⟨(by first | omega | (unfold i32; omega)), ?_⟩
      rintro y91 rfl
      simp only [tw_5]
      rw [show upR (upR A 9 c) 10 q 5 = A 5 from rfl]
      refine ⟨(by first | omega | (unfold i32; omega)), (by first | omega | (unfold i32; omega)), fun c5 => ⟨(by first | omega | (unfold i32; omega)), fun y ey => hK (n - (j + 1)) _ _ _ _ _ (by omega) ⟨j + 1, by omega, rfl, by omega, rfl, e1.symm, ?_, rfl⟩⟩, fun c5 => ⟨(by first | omega | (unfold i32; omega)), (by first | omega | (unfold i32; omega)), (by first | omega | (unfold i32; omega)), fun y ey => hK (n - (j + 1)) _ _ _ _ _ (by omega) ⟨j + 1, by omega, rfl, by omega, rfl, e1.symm, ?_, rfl⟩⟩⟩
      · simp only [lstN]; rw [if_neg (by omega)]
      · simp only [lstN]; rw [if_pos c5]
    exact ⟨fun c4 => b90 0 (by rw [if_neg (by omega)]), fun c4 => b90 1 (by rw [if_pos c4])⟩
end EV
