section
section
variable {pr ct : Int32} {a1 a2 a3 a4 a5 a6 : Nat → Int32}
/-- bits: the set 0 holds nothing, the set 1 holds 0 alone -/
theorem rd_sh0 (k : Int32) : ((0 : Int32) >>> (k &&& 31)) &&& 1 = 0 := by
  rw [Int32.zero_shiftRight, Int32.zero_and]
theorem rd_sh1 : ∀ j, j < 5 → j ≠ 0 → ((1 : Int32) >>> (nI j &&& 31)) &&& 1 = 0 := by decide +kernel
theorem rd_sh1k {k : Int32} (h0 : ¬ k < 0) (h5 : ¬ 5 ≤ k) (hk : k ≠ 0) : ((1 : Int32) >>> (k &&& 31)) &&& 1 = 0 := by
  obtain ⟨j, hj, rfl⟩ := nI_of h0
  have h : ¬ 5 ≤ j := fun z => h5 (nI_le (a := 5) z hj)
  exact rd_sh1 j (by omega) (fun z => hk (by rw [z, nI_0]))
theorem rd_in5 : vp_in 0 5 := vp_in_iff.mpr (by decide)
theorem rd_in0 {post : Int32 → Prop} (k : Int32) (h : post 0) : wpX_in post () 0 k := br_t (rd_sh0 k) h
theorem rd_has0 {post : Int32 → Prop} (k : Int32) (h : post 0) : wpX_has post (0, ct, a1, a2, a3, a4, a5, a6) k :=
  br_c (fun _ => h) (fun _ => br_c (fun _ => h) (fun _ => br_t (rd_sh0 k) h))
theorem rd_has1 {post : Int32 → Prop} (h : post 1) : wpX_has post (1, ct, a1, a2, a3, a4, a5, a6) 0 :=
  br_f (by decide) (br_f (by decide) (br_f (by decide) h))
theorem rd_hasN {post : Int32 → Prop} {k : Int32} (hk : k ≠ 0) (h : post 0) : wpX_has post (1, ct, a1, a2, a3, a4, a5, a6) k :=
  br_c (fun _ => h) (fun h0 => br_c (fun _ => h) (fun h5 => br_t (rd_sh1k h0 h5 hk) h))
theorem rd_hasI {post : Int32 → Prop} {i : Nat} (h0 : 0 < i) (hi : i < 5) (h : post 0) : wpX_has post (1, ct, a1, a2, a3, a4, a5, a6) (nI i) :=
  rd_hasN (nI_ne0 h0 (by omega)) h
/-- workIn over no task -/
theorem rd_work0 {post : Int32 → Prop} (t : Int32) (h : post 0) : wpX_workIn post (pr, ct, a1, a2, a3, a4, a5, a6) 0 t :=
  pk_loop (σ := Unit) (fun n i _ => wX_workIn_5 post 0 t pr ct a1 a2 a3 a4 a5 a6 n 0 (nI i)) (fun _ _ => True) 5 0 () (by omega) trivial
    (fun n _ _ => pk_le 5 5 (fun _ => h) (fun z => absurd z (by omega)))
    (fun n i _ hi _ hw => pk_le 5 i (fun z => absurd z (by omega)) (fun _ => rd_in0 (nI i) (br_t rfl (nm_r (nI_1 i) (hw () trivial)))))
/-- workIn over task 0 alone -/
theorem rd_work1 {post : Int32 → Prop} {t p c : Nat} (ht : t < 1000) (hp : 0 < p) (hp' : p < 1000) (e1 : a1 0 = nI c) (e3 : a3 0 = nI p) (h : post (nI ((t + p - 1) / p * c))) :
    wpX_workIn post (pr, ct, a1, a2, a3, a4, a5, a6) 1 (nI t) := by
  have T : ∃ n, wX_workIn_5 post 1 (nI t) pr ct a1 a2 a3 a4 a5 a6 n (nI ((t + p - 1) / p * c)) (nI 1) :=
    pk_loop (σ := Unit) (fun n i _ => wX_workIn_5 post 1 (nI t) pr ct a1 a2 a3 a4 a5 a6 n (nI ((t + p - 1) / p * c)) (nI i)) (fun i _ => 0 < i) 5 1 () (by omega) (by omega)
      (fun n _ _ => pk_le 5 5 (fun _ => h) (fun z => absurd z (by omega)))
      (fun n i _ hi h0 hw => pk_le 5 i (fun z => absurd z (by omega)) (fun _ => br_t (rd_sh1 i hi (by omega)) (br_t rfl (nm_r (nI_1 i) (hw () (by omega))))))
  obtain ⟨n, hn⟩ := T
  have e1' : a1 (0 : Int32).toNatClampNeg = nI c := e1
  have e3' : a3 (0 : Int32).toNatClampNeg = nI p := e3
  have E : 0 + (nI t + nI p - 1) / nI p * nI c = nI ((t + p - 1) / p * c) := by
    rw [nI_add, show t + p = (t + p - 1) + 1 by omega, nI_pred, pk_div (by omega) hp (by omega), pk_mul, Int32.zero_add]
    rw [show t + p - 1 + 1 - 1 = t + p - 1 by omega]
  refine ⟨n + 1, br_f (by decide) (br_f (by decide) (br_f (by decide) ⟨rd_in5, br_f ?_ ⟨rd_in5, ?_, rd_in5, nm_r ?_ (nm_r (by rfl) hn)⟩⟩))⟩
  · rw [e3']; exact nI_nle hp (by omega)
  · rw [e3']; exact nI_ne0 hp (by omega)
  · rw [e3', e1']; exact E
/-- one task: it stands at place 0, above it stands none -/
theorem rd_plc {post : Int32 → Prop} (k : Int32) (h : post 0) : wpX_placeOf post (pr, 1, a1, a2, a3, a4, a5, a6) k :=
  ⟨1, br_t (by decide) h⟩
theorem rd_urg {post : Int32 → Prop} (k : Int32) (h : post 0) : wpX_moreUrgent post (pr, 1, a1, a2, a3, a4, a5, a6) k :=
  rd_plc k ⟨1, br_t (by decide) h⟩
theorem rd_ru {post : Int32 → Prop} (h : post (a1 0)) : wpX_responseUnder post (pr, ct, a1, a2, a3, a4, a5, a6) 0 0 :=
  ⟨rd_in5, nm_r (e' := a1 0) (by rfl) ⟨1, br_f (by decide) ⟨rd_in5, rd_work0 _ (nm_r (e' := a1 0) (Int32.add_zero _) (br_t rfl h))⟩⟩⟩
theorem rd_it {post : Int32 → Prop} {c d : Nat} (hc : c ≤ d) (hd : d ≤ 15) (e1 : a1 0 = nI c) (e2 : a2 0 = nI d) (h : post 1) : wpX_inTimeUnder post (pr, ct, a1, a2, a3, a4, a5, a6) 0 0 := by
  refine rd_ru ?_
  rw [e1]
  have e2' : a2 (0 : Int32).toNatClampNeg = nI d := e2
  refine br_f ?_ ⟨rd_in5, br_f ?_ h⟩
  · have : ∀ j, j ≤ 15 → ¬ nI j = -3 := by decide +kernel
    exact this c (by omega)
  · rw [e2']; exact nI_nlt hc (by omega)
theorem rd_resp {post : Int32 → Prop} (h : post (a1 0)) : wpX_response post (1, 1, a1, a2, a3, a4, a5, a6) 0 := by
  unfold wpX_response
  exact rd_has1 (br_f (by decide) (rd_urg 0 (rd_ru h)))
theorem rd_respN {post : Int32 → Prop} {k : Int32} (hk : k ≠ 0) (h : post (-1)) : wpX_response post (1, ct, a1, a2, a3, a4, a5, a6) k := by
  unfold wpX_response
  exact rd_hasN hk (br_t rfl h)
theorem rd_resp0 {post : Int32 → Prop} (k : Int32) (h : post (-1)) : wpX_response post (0, ct, a1, a2, a3, a4, a5, a6) k := by
  unfold wpX_response
  exact rd_has0 k (br_t rfl h)
theorem rd_inT0 {post : Int32 → Prop} (h : post 0) : wpX_inTime post (0, ct, a1, a2, a3, a4, a5, a6) :=
  pk_loop (σ := Unit) (fun n i _ => wX_inTime_4 post 0 ct a1 a2 a3 a4 a5 a6 n 0 (nI i)) (fun _ _ => True) 5 0 () (by omega) trivial
    (fun n _ _ => pk_le 5 5 (fun _ => h) (fun z => absurd z (by omega)))
    (fun n i _ hi _ hw => pk_le 5 i (fun z => absurd z (by omega)) (fun _ => rd_has0 (nI i) (br_t rfl (nm_r (nI_1 i) (hw () trivial)))))
theorem rd_inT1 {post : Int32 → Prop} {c d : Nat} (hc : c ≤ d) (hd : d ≤ 15) (e1 : a1 0 = nI c) (e2 : a2 0 = nI d) (h : post 1) : wpX_inTime post (1, 1, a1, a2, a3, a4, a5, a6) := by
  have T : ∃ n, wX_inTime_4 post 1 1 a1 a2 a3 a4 a5 a6 n 1 (nI 1) :=
    pk_loop (σ := Unit) (fun n i _ => wX_inTime_4 post 1 1 a1 a2 a3 a4 a5 a6 n 1 (nI i)) (fun i _ => 0 < i) 5 1 () (by omega) (by omega)
      (fun n _ _ => pk_le 5 5 (fun _ => h) (fun z => absurd z (by omega)))
      (fun n i _ hi h0 hw => pk_le 5 i (fun z => absurd z (by omega)) (fun _ => rd_hasI h0 hi (br_t rfl (nm_r (nI_1 i) (hw () (by omega))))))
  obtain ⟨n, hn⟩ := T
  exact ⟨n + 1, br_f (by decide) (rd_has1 (br_f (by decide) (rd_urg 0 (rd_it hc hd e1 e2 (br_f (by decide) (nm_r (by rfl) (nm_r (by rfl) hn)))))))⟩
theorem rd_good0 {post : Int32 → Prop} (h : post 1) : wpX_good post (0, ct, a1, a2, a3, a4, a5, a6) := rd_inT0 (br_t rfl h)
theorem rd_good1 {post : Int32 → Prop} {c d : Nat} (hc : c ≤ d) (hd : d ≤ 15) (e1 : a1 0 = nI c) (e2 : a2 0 = nI d) (h : post 1) : wpX_good post (1, 1, a1, a2, a3, a4, a5, a6) :=
  rd_inT1 hc hd e1 e2 (br_t rfl h)
end
end
section
section
variable {pr ct : Int32} {a1 a2 a3 a4 a5 a6 : Nat → Int32}
/-- what fill needs to know: no task, or task 0 alone, and that one in time by itself -/
def rd_Q (pr : Int32) (a1 a2 : Nat → Int32) : Prop := pr = 0 ∨ (pr = 1 ∧ ∃ c d : Nat, c ≤ d ∧ d ≤ 15 ∧ a1 0 = nI c ∧ a2 0 = nI d)
theorem rd_b1 : ∀ s, s < 32 → ∀ i, i < 5 → i ≠ 0 → ((nI s &&& 1) >>> (nI i &&& 31)) &&& 1 = 0 := by decide +kernel
theorem rd_b2 : ∀ s, s < 32 → nI s &&& (((1 : Int32) <<< (nI 0 &&& 31)) ^^^ (-1)) = nI (s / 2 * 2) := by decide +kernel
theorem rd_b3 : ∀ s, s < 32 → nI (s / 2 * 2) &&& 1 = 0 := by decide +kernel
theorem rd_b4 : ∀ s, s < 32 → ¬ ((nI s &&& 1) >>> (nI 0 &&& 31)) &&& 1 = 0 → s ≠ 0 := by decide +kernel
theorem rd_b5 : ∀ s, s < 32 → ∀ i, i < 5 → i ≠ 0 → (((1 : Int32) &&& (nI s ^^^ (-1))) >>> (nI i &&& 31)) &&& 1 = 0 := by decide +kernel
theorem rd_b6 : ∀ s, s < 32 → ¬ (((1 : Int32) &&& (nI s ^^^ (-1))) >>> (nI 0 &&& 31)) &&& 1 = 0 → nI s &&& ((1 : Int32) ^^^ (-1)) = 0 → s = 0 := by decide +kernel
theorem rd_f124 {post : St2 → Prop} {J : Int32 → (Nat → Int32) → (Nat → Int32) → (Nat → Int32) → (Nat → Int32) → (Nat → Int32) → (Nat → Int32) → Prop} {s : Nat} (hs : s < 32) (q : rd_Q pr a1 a2) (b6 : Nat → Int32)
    (H : ∀ b, b 0 = b6 0 → J (nI s + 1) a1 a2 a3 a4 a5 b) : ∃ n, wX_fill_124 post J (nI s) pr ct n 0 a1 a2 a3 a4 a5 b6 := by
  refine pk_loop (fun n i b => wX_fill_124 post J (nI s) pr ct n (nI i) a1 a2 a3 a4 a5 b) (fun _ b => b 0 = b6 0) 5 0 b6 (by omega) rfl
    (fun n b h => pk_le 5 5 (fun _ => nm_e (H b h)) (fun z => absurd z (by omega)))
    (fun n i b hi h hw => pk_le 5 i (fun z => absurd z (by omega)) (fun _ => ?_))
  rcases q with rfl | ⟨rfl, c, d, hc, hd, e1, e2⟩
  · exact nm_e (br_t (by rw [Int32.and_zero]; exact rd_sh0 _) (br_t rfl (nm_r (nI_1 i) (hw b h))))
  · by_cases e : i = 0
    · subst e
      refine nm_r (rd_b2 s hs) (br_c (fun _ => br_t rfl (nm_r (nI_1 0) (hw b h))) (fun hb => br_f (by decide) ?_))
      have hs0 : s ≠ 0 := rd_b4 s hs hb
      rw [rd_b3 s hs]
      refine rd_it hc hd e1 e2 (br_f (by decide) ⟨vp_in_nI hs (by omega), vp_in_nI (by omega) (by omega), vp_in_nI hs (by omega), nm_e (nm_r (nI_1 0) (hw _ ?_))⟩)
      rw [nI_clamp (show s < 2 ^ 31 by omega), pk_un (by omega), h]
    · exact nm_e (br_t (rd_b1 s hs i hi e) (br_t rfl (nm_r (nI_1 i) (hw b h))))
theorem rd_f101 {post : St2 → Prop} (q : rd_Q pr a1 a2) (H : ∀ b, b 0 = 1 → post (pr, ct, a1, a2, a3, a4, a5, b)) : ∃ n, wX_fill_101 post pr ct n 0 a1 a2 a3 a4 a5 a6 := by
  refine pk_loop (fun n i b => wX_fill_101 post pr ct n (nI i) a1 a2 a3 a4 a5 b) (fun i b => 0 < i → b 0 = 1) 32 0 a6 (by omega) (fun z => absurd z (by omega))
    (fun n b h => pk_le 32 32 (fun _ => H b (h (by omega))) (fun z => absurd z (by omega)))
    (fun n i b hi h hw => pk_le 32 i (fun z => absurd z (by omega)) (fun _ => pk_eq i 0 (fun z => ⟨vp_in_nI hi (by omega), nm_e (rd_f124 hi q _ (fun b' hb => ?_))⟩) (fun z => ⟨vp_in_nI hi (by omega), nm_e (rd_f124 hi q _ (fun b' hb => ?_))⟩)))
  · rw [nI_1]
    refine hw b' (fun _ => ?_)
    rw [hb, z, nI_clamp (show 0 < 2 ^ 31 by omega), pk_us]
  · rw [nI_1]
    refine hw b' (fun _ => ?_)
    rw [hb, nI_clamp (show i < 2 ^ 31 by omega), pk_un (by omega), h (by omega)]
theorem rd_f28 {post : St2 → Prop} {J : Int32 → (Nat → Int32) → (Nat → Int32) → (Nat → Int32) → (Nat → Int32) → (Nat → Int32) → (Nat → Int32) → Prop} {s : Nat} (hs : s < 32) (q : rd_Q pr a1 a2) (b5 : Nat → Int32)
    (H : ∀ b, J (nI s + (-1)) a1 a2 a3 a4 b a6) : ∃ n, wX_fill_28 post J (nI s) pr ct n 0 a1 a2 a3 a4 b5 a6 := by
  refine pk_loop (fun n i b => wX_fill_28 post J (nI s) pr ct n (nI i) a1 a2 a3 a4 b a6) (fun _ _ => True) 5 0 b5 (by omega) trivial
    (fun n b h => pk_le 5 5 (fun _ => nm_e (H b)) (fun z => absurd z (by omega)))
    (fun n i b hi h hw => pk_le 5 i (fun z => absurd z (by omega)) (fun _ => ?_))
  rcases q with rfl | ⟨rfl, c, d, hc, hd, e1, e2⟩
  · exact br_t (by rw [Int32.zero_and]; exact rd_sh0 _) (br_t rfl (nm_r (nI_1 i) (hw b trivial)))
  · by_cases e : i = 0
    · subst e
      refine br_c (fun _ => br_t rfl (nm_r (nI_1 0) (hw b trivial))) (fun hb => br_f (by decide) (br_c (fun g => ?_) (fun _ => nm_r (nI_1 0) (hw b trivial))))
      have hs0 : s = 0 := rd_b6 s hs hb g
      subst hs0
      exact rd_it hc hd e1 e2 (br_f (by decide) ⟨vp_in_nI hs (by omega), vp_in_iff.mpr (by decide), vp_in_nI hs (by omega), nm_e (nm_r (nI_1 0) (hw _ trivial))⟩)
    · exact br_t (rd_b5 s hs i hi e) (br_t rfl (nm_r (nI_1 i) (hw b trivial)))
theorem rd_fill {post : St2 → Prop} (q : rd_Q pr a1 a2) (H : ∀ b5 b6, b6 0 = 1 → post (pr, ct, a1, a2, a3, a4, b5, b6)) : wpX_fill post (pr, ct, a1, a2, a3, a4, a5, a6) := by
  have T := pk_loopD (fun n i b => wX_fill_3 post pr ct n (nI i + (-1)) a1 a2 a3 a4 b a6) (fun i _ => i ≤ 32)
    (fun n b _ => br_t (by decide) (rd_f101 q (H b)))
    (fun n i b h hw => by
      show wX_fill_3 post pr ct (n + 1) (nI (i + 1) + (-1)) a1 a2 a3 a4 b a6
      rw [pk_m1]
      exact br_f (nI_pos (by omega)) (br_c (fun _ => ⟨vp_in_nI (by omega) (by omega), nm_e (rd_f28 (by omega) q _ (fun b' => hw b' (by omega)))⟩) (fun _ => ⟨vp_in_nI (by omega) (by omega), nm_e (rd_f28 (by omega) q _ (fun b' => hw b' (by omega)))⟩))) 32 a5 (by omega)
  rw [show nI 32 + (-1) = 31 by decide] at T
  exact ⟨_, T⟩
theorem rd_cbl0 {post : Int32 → St2 → Prop} (H : ∀ b5 b6, post 0 (0, ct, a1, a2, a3, a4, b5, b6)) : wpX_canBeLast post (0, ct, a1, a2, a3, a4, a5, a6) :=
  rd_fill (.inl rfl) (fun b5 b6 _ =>
    pk_loop (σ := Unit) (fun n i _ => wX_canBeLast_8 post 0 ct a1 a2 a3 a4 b5 b6 n 0 (nI i)) (fun _ _ => True) 5 0 () (by omega) trivial
      (fun n _ _ => pk_le 5 5 (fun _ => H b5 b6) (fun z => absurd z (by omega)))
      (fun n i _ hi _ hw => pk_le 5 i (fun z => absurd z (by omega)) (fun _ => nm_e (rd_has0 (nI i) (br_t rfl (nm_r (by decide) (nm_r (nI_1 i) (hw () trivial))))))))
theorem rd_cbl1 {post : Int32 → St2 → Prop} {c d : Nat} (hc : c ≤ d) (hd : d ≤ 15) (e1 : a1 0 = nI c) (e2 : a2 0 = nI d) (H : ∀ b5 b6, post 1 (1, ct, a1, a2, a3, a4, b5, b6)) : wpX_canBeLast post (1, ct, a1, a2, a3, a4, a5, a6) := by
  refine rd_fill (.inr ⟨rfl, c, d, hc, hd, e1, e2⟩) (fun b5 b6 h6 => ?_)
  have T : ∃ n, wX_canBeLast_8 post 1 ct a1 a2 a3 a4 b5 b6 n 1 (nI 1) :=
    pk_loop (σ := Unit) (fun n i _ => wX_canBeLast_8 post 1 ct a1 a2 a3 a4 b5 b6 n 1 (nI i)) (fun i _ => 0 < i) 5 1 () (by omega) (by omega)
      (fun n _ _ => pk_le 5 5 (fun _ => H b5 b6) (fun z => absurd z (by omega)))
      (fun n i _ hi h0 hw => pk_le 5 i (fun z => absurd z (by omega)) (fun _ => nm_e (rd_hasI h0 hi (br_t rfl (nm_r (by decide) (nm_r (nI_1 i) (hw () (by omega))))))))
  obtain ⟨n, hn⟩ := T
  have h6' : b6 (0 : Int32).toNatClampNeg = 1 := h6
  refine ⟨n + 1, br_f (by decide) (nm_r (e' := 0) (by decide) (rd_has1 (br_f (by decide) ⟨vp_in_iff.mpr (by decide), br_f ?_ (rd_it hc hd e1 e2 (br_f (by decide) (nm_r (by rfl) (nm_r (by rfl) hn))))⟩)))⟩
  rw [h6']
  decide
end
end
section
section
variable {pr ct : Int32} {a1 a2 a3 a4 a5 a6 : Nat → Int32}
theorem rd_byte : ∀ c, c ≤ 15 → (nI c).toInt8.toInt32 = nI c := by decide +kernel
theorem rd_nar {c : Nat} (h : c ≤ 15) : vp_nar .byte (nI c) = nI c := by rw [vp_nar_byte]; exact rd_byte c h
theorem rd_gc {post : Int32 → St2 → Prop} {c d : Nat} (hc : c ≤ 15) (h1 : 1 ≤ d) (hd : d ≤ 15) (e1 : a1 0 = nI c) (e2 : a2 0 = nI d)
    (H : ∀ b, b 0 = nI c → post (nI d) (1, 1, b, a2, a3, a4, a5, a6)) : wpX_greatestCost post (1, 1, a1, a2, a3, a4, a5, a6) 0 := by
  have e1' : a1 (0 : Int32).toNatClampNeg = nI c := e1
  have e2' : a2 (0 : Int32).toNatClampNeg = nI d := e2
  unfold wpX_greatestCost
  refine rd_has1 (br_f (by decide) ⟨rd_in5, nm_r e1' ?_⟩)
  refine pk_loop (σ := Int32 × (Nat → Int32)) (fun n i s => wX_greatestCost_22 post 0 (nI c) 1 1 n s.1 (nI i) s.2 a2 a3 a4 a5 a6) (fun i s => 1 ≤ i ∧ (1 < i → s.1 = nI (i - 1))) (d + 1) 1 (0, a1) (by omega) ⟨by omega, fun z => absurd z (by omega)⟩
    (fun n s h => ?_) (fun n i s hi h hw => ?_)
  · obtain ⟨x, b⟩ := s
    have hx : x = nI d := h.2 (by omega)
    subst hx
    refine ⟨rd_in5, br_t ?_ ⟨rd_in5, nm_e (H _ ?_)⟩⟩
    · rw [e2']; exact nI_lt (by omega) (by omega)
    · rw [rd_nar hc]; exact pk_us
  · obtain ⟨x, b⟩ := s
    refine ⟨rd_in5, br_f ?_ ⟨rd_in5, nm_e (rd_good1 (c := i) (d := d) (by omega) hd ?_ e2 (br_f (by decide) (nm_r (nI_1 i) (hw (nI i, _) ⟨by omega, fun _ => ?_⟩))))⟩⟩
    · rw [e2']; exact nI_nlt (by omega) (by omega)
    · rw [rd_byte i (by omega)]; exact pk_us
    · rfl
theorem rd_gcN {post : Int32 → St2 → Prop} {k : Int32} (hk : k ≠ 0) (h : post (-1) (1, ct, a1, a2, a3, a4, a5, a6)) : wpX_greatestCost post (1, ct, a1, a2, a3, a4, a5, a6) k := by
  unfold wpX_greatestCost
  exact rd_hasN hk (br_t rfl h)
theorem rd_gc0 {post : Int32 → St2 → Prop} (k : Int32) (h : post (-1) (0, ct, a1, a2, a3, a4, a5, a6)) : wpX_greatestCost post (0, ct, a1, a2, a3, a4, a5, a6) k := by
  unfold wpX_greatestCost
  exact rd_has0 k (br_t rfl h)
theorem rd_lp {post : Int32 → St2 → Prop} {c e p : Nat} (hc : c ≤ e + 1) (hd : e + 1 ≤ 15) (hp : p ≤ 15) (e1 : a1 0 = nI c) (e2 : a2 0 = nI (e + 1)) (e3 : a3 0 = nI p)
    (H : ∀ b, b 0 = nI p → post (nI (e + 1)) (1, 1, a1, a2, b, a4, a5, a6)) : wpX_leastPeriod post (1, 1, a1, a2, a3, a4, a5, a6) 0 := by
  have e2' : a2 (0 : Int32).toNatClampNeg = nI (e + 1) := e2
  have e3' : a3 (0 : Int32).toNatClampNeg = nI p := e3
  unfold wpX_leastPeriod
  refine rd_has1 (br_f (by decide) ⟨rd_in5, nm_r e3' ?_⟩)
  have T := pk_loopD (σ := Int32 × (Nat → Int32)) (fun n i s => wX_leastPeriod_23 post 0 (nI p) 1 1 n s.1 (nI (i + e)) a1 a2 s.2 a4 a5 a6) (fun i s => i + e ≤ 15 ∧ (i + e < 15 → s.1 = nI (i + e + 1)))
    (fun n s h => by
      obtain ⟨x, b⟩ := s
      have hx : x = nI (e + 1) := by
        have := h.2 (by omega)
        rw [Nat.zero_add] at this
        exact this
      subst hx
      refine ⟨rd_in5, br_t ?_ ⟨rd_in5, nm_e (H _ ?_)⟩⟩
      · rw [e2']; exact nI_lt (by omega) (by omega)
      · rw [rd_nar hp]; exact pk_us)
    (fun n i s h hw => by
      obtain ⟨x, b⟩ := s
      have h1 : i + 1 + e ≤ 15 := h.1
      refine ⟨rd_in5, br_f ?_ ⟨rd_in5, nm_e (rd_good1 (c := c) (d := e + 1) hc hd e1 e2 (br_f (by decide) (nm_r (e' := nI (i + e)) ?_ (hw (nI (i + 1 + e), _) ⟨by omega, fun _ => ?_⟩))))⟩⟩
      · rw [e2']; exact nI_nlt (by omega) (by omega)
      · rw [show i + 1 + e = (i + e) + 1 by omega]; exact pk_m1 _
      · show nI (i + 1 + e) = nI (i + e + 1)
        rw [show i + 1 + e = (i + e) + 1 by omega]) (15 - e) (0, a3) ⟨by omega, fun z => absurd z (by omega)⟩
  dsimp only at T
  rw [show 15 - e + e = 15 by omega] at T
  exact ⟨_, T⟩
theorem rd_lpN {post : Int32 → St2 → Prop} {k : Int32} (hk : k ≠ 0) (h : post (-1) (1, ct, a1, a2, a3, a4, a5, a6)) : wpX_leastPeriod post (1, ct, a1, a2, a3, a4, a5, a6) k := by
  unfold wpX_leastPeriod
  exact rd_hasN hk (br_t rfl h)
theorem rd_lp0 {post : Int32 → St2 → Prop} (k : Int32) (h : post (-1) (0, ct, a1, a2, a3, a4, a5, a6)) : wpX_leastPeriod post (0, ct, a1, a2, a3, a4, a5, a6) k := by
  unfold wpX_leastPeriod
  exact rd_has0 k (br_t rfl h)
theorem rd_pl {post : Int32 → St2 → Prop} (H : ∀ b, post 1 (1, 1, a1, a2, a3, b, a5, a6)) : wpX_place post (1, 1, a1, a2, a3, a4, a5, a6) 0 0 := by
  unfold wpX_place
  exact rd_has1 (br_f (by decide) (br_f (by decide) (br_t (by decide) (rd_plc 0 ⟨1, br_t (by decide) ⟨1, br_t (by decide) ⟨rd_in5, nm_e (H _)⟩⟩⟩))))
theorem rd_plN {post : Int32 → St2 → Prop} {k : Int32} (hk : k ≠ 0) (h : post 0 (1, ct, a1, a2, a3, a4, a5, a6)) : wpX_place post (1, ct, a1, a2, a3, a4, a5, a6) k 0 := by
  unfold wpX_place
  exact rd_hasN hk (br_t rfl h)
theorem rd_pl0 {post : Int32 → St2 → Prop} (k : Int32) (h : post 0 (0, ct, a1, a2, a3, a4, a5, a6)) : wpX_place post (0, ct, a1, a2, a3, a4, a5, a6) k 0 := by
  unfold wpX_place
  exact rd_has0 k (br_t rfl h)
theorem rd_addN {post : Int32 → St2 → Prop} {x y z : Int32} (hN : ¬ (¬ x < 1 ∧ ¬ y < x ∧ ¬ z < y ∧ ¬ 15 < z)) (h : post (-1) (pr, ct, a1, a2, a3, a4, a5, a6)) : wpX_add post (pr, ct, a1, a2, a3, a4, a5, a6) x y z :=
  br_c (fun _ => br_t rfl h) (fun g1 => br_c (fun _ => br_t rfl h) (fun g2 => br_c (fun _ => br_t rfl h) (fun g3 => br_c (fun _ => br_t rfl h) (fun g4 => absurd ⟨g1, g2, g3, g4⟩ hN))))
theorem rd_add {post : Int32 → St2 → Prop} {c d p : Nat} (h1 : 1 ≤ c) (h2 : c ≤ d) (h3 : d ≤ p) (h4 : p ≤ 15)
    (H : ∀ b1 b2 b3 b4, b1 0 = nI c → b2 0 = nI d → b3 0 = nI p → post 0 (1, 1, b1, b2, b3, b4, a5, a6)) : wpX_add post (0, 0, a1, a2, a3, a4, a5, a6) (nI c) (nI d) (nI p) := by
  refine br_f (nI_nlt (b := 1) h1 (by omega)) (br_f (nI_nlt h2 (by omega)) (br_f (nI_nlt h3 (by omega)) (br_f (nI_nlt (a := 15) h4 (by omega)) (br_f (by decide) ⟨1, br_f (by decide) (rd_has0 0 (br_t rfl (nm_r (e' := 1) (by decide) ⟨rd_in5, nm_e ⟨rd_in5, nm_e ⟨rd_in5, nm_e ⟨rd_in5, nm_e (nm_r (e' := 1) (by decide) (H _ _ _ _ ?_ ?_ ?_))⟩⟩⟩⟩)))⟩))))
  · rw [rd_byte c (by omega)]; exact pk_us
  · rw [rd_byte d (by omega)]; exact pk_us
  · rw [rd_byte p (by omega)]; exact pk_us
end
end
section
section
variable {pr ct : Int32} {a1 a2 a3 a4 a5 a6 : Nat → Int32}
/-- the counter's end: x is the law's n, m the units -/
def rd_end (x : Int32) (m : Nat) : Prop := m ≤ 60 ∧ ∀ t, 1 ≤ t → t ≤ 60 → (x < nI t ↔ m < t)
theorem rd_idle {post : Int32 → Prop} {x : Int32} {m : Nat} (hx : rd_end x m) (f w : Nat → Nat) (f0 : f 0 = 0) (fb : ∀ t, t ≤ 60 → f t ≤ 60) (wb : ∀ t, t ≤ 60 → w t ≤ 2000)
    (st : ∀ t, t < 60 → f (t + 1) = max (f t) (t + 1 - w (t + 1)))
    (hw : ∀ (t : Nat) (Q : Int32 → Prop), 1 ≤ t → t ≤ 60 → Q (nI (w t)) → wpX_workIn Q (pr, ct, a1, a2, a3, a4, a5, a6) pr (nI t))
    (H : post (nI (f m))) : wpX_idle post (pr, ct, a1, a2, a3, a4, a5, a6) x := by
  obtain ⟨hm, hn⟩ := hx
  refine pk_loop (fun k i s => wX_idle_4 post x pr ct a1 a2 a3 a4 a5 a6 k s (nI i)) (fun i s => 1 ≤ i ∧ s = nI (f (i - 1))) (m + 1) 1 0 (by omega) ⟨by omega, by rw [show 1 - 1 = 0 from rfl, f0, nI_0]⟩
    (fun k s h => ?_) (fun k i s hi h hk => ?_)
  · obtain ⟨_, rfl⟩ := h
    by_cases z : m + 1 ≤ 60
    · exact br_t ((hn (m + 1) (by omega) z).mpr (by omega)) H
    · exact br_c (fun _ => H) (fun _ => br_t (nI_lt (a := 60) (by omega) (by omega)) H)
  · obtain ⟨h1, rfl⟩ := h
    have hb := fb (i - 1) (by omega)
    have hs := st (i - 1) (by omega)
    have hwb := wb i (by omega)
    rw [show i - 1 + 1 = i by omega] at hs
    refine br_f (fun z => absurd ((hn i h1 (by omega)).mp z) (by omega)) (br_f (nI_nlt (b := i) (a := 60) (by omega) (by omega)) (hw i _ h1 (by omega) ?_))
    by_cases z : w i ≤ i
    · refine nm_r (pk_sub z) (pk_le (i - w i) (f (i - 1)) (fun g => nm_r (nI_1 i) (hk _ ⟨by omega, ?_⟩)) (fun g => nm_r (nI_1 i) (hk _ ⟨by omega, ?_⟩)))
      · rw [show i + 1 - 1 = i by omega, show f i = f (i - 1) by omega]
      · rw [show i + 1 - 1 = i by omega, show f i = i - w i by omega]
    · refine nm_e (br_t ?_ (nm_r (nI_1 i) (hk _ ⟨by omega, ?_⟩)))
      · exact Int32.le_of_lt (Int32.lt_of_lt_of_le (pk_sneg (by omega) (by omega)) (nI_pos' (by omega)))
      · rw [show i + 1 - 1 = i by omega, show f i = f (i - 1) by omega]
/-- the units in which task 0 alone leaves nothing to do -/
def rd_id (c p t : Nat) : Nat := t - t / p * c - min (t % p) c
theorem rd_id_st : ∀ c, c < 16 → ∀ p, p < 16 → ∀ t, t < 60 → 1 ≤ c → c ≤ p → rd_id c p (t + 1) = max (rd_id c p t) (t + 1 - (t + 1 + p - 1) / p * c) := by decide +kernel
theorem rd_id_w : ∀ c, c < 16 → ∀ p, p < 16 → ∀ t, t ≤ 60 → (t + p - 1) / p * c ≤ 2000 := by
  intro c hc p hp t ht
  have h1 : (t + p - 1) / p ≤ 75 := Nat.le_trans (Nat.div_le_self _ _) (by omega)
  have h2 : (t + p - 1) / p * c ≤ 75 * 16 := Nat.mul_le_mul h1 (by omega)
  omega
theorem rd_id_b (c p t : Nat) (h : t ≤ 60) : rd_id c p t ≤ 60 := by unfold rd_id; omega
theorem rd_idle1 {post : Int32 → Prop} {x : Int32} {m c p : Nat} (hx : rd_end x m) (h1 : 1 ≤ c) (h2 : c ≤ p) (h3 : p ≤ 15) (e1 : a1 0 = nI c) (e3 : a3 0 = nI p) (H : post (nI (rd_id c p m))) :
    wpX_idle post (1, ct, a1, a2, a3, a4, a5, a6) x :=
  rd_idle hx (rd_id c p) (fun t => (t + p - 1) / p * c) (by unfold rd_id; omega) (fun t ht => rd_id_b c p t ht) (fun t ht => rd_id_w c (by omega) p (by omega) t ht)
    (fun t ht => rd_id_st c (by omega) p (by omega) t ht h1 h2) (fun t Q _ ht hq => rd_work1 (by omega) (by omega) (by omega) e1 e3 hq) H
theorem rd_idle0 {post : Int32 → Prop} {x : Int32} {m : Nat} (hx : rd_end x m) (H : post (nI m)) : wpX_idle post (0, ct, a1, a2, a3, a4, a5, a6) x :=
  rd_idle hx (fun t => t) (fun _ => 0) rfl (fun t ht => ht) (fun t ht => by omega) (fun t ht => by omega) (fun t Q _ _ hq => rd_work0 (nI t) hq) H
end
end
section
section
variable {post : Int32 → St0 → Prop} {mc ms kc ks : Nat} {pr ct : Int32} {a1 a2 a3 a4 a5 a6 : Nat → Int32}
theorem rd_172_0 {k x : Int32} {m : Nat} (hx : rd_end x m) (H : post 1 ()) : wL_lawOf_172 post mc ms k x 0 (-1) (-1) (-1) (nI m) 0 kc ks 0 ct a1 a2 a3 a4 a5 a6 :=
  br_t rfl (rd_resp0 k (br_t rfl (rd_inT0 (br_t rfl (rd_good0 (br_f (by decide) (rd_cbl0 (fun _ _ => br_t rfl (rd_gc0 k (br_t rfl (rd_lp0 k (br_t rfl (rd_idle0 hx (br_t rfl (rd_pl0 k (br_t rfl H))))))))))))))))
theorem rd_172_1 {x : Int32} {m c e p : Nat} (hx : rd_end x m) (h1 : 1 ≤ c) (h2 : c ≤ e + 1) (h3 : e + 1 ≤ p) (h4 : p ≤ 15) (e1 : a1 0 = nI c) (e2 : a2 0 = nI (e + 1)) (e3 : a3 0 = nI p) (H : post 1 ()) :
    wL_lawOf_172 post mc ms 0 x 1 (nI c) (nI (e + 1)) (nI (e + 1)) (nI (rd_id c p m)) 1 kc ks 1 1 a1 a2 a3 a4 a5 a6 := by
  have h5 : e + 1 ≤ 15 := by omega
  have h6 : c ≤ 15 := by omega
  have h7 : c ≤ p := by omega
  have h8 : 1 ≤ e + 1 := by omega
  exact br_t rfl (rd_resp (br_t e1 (rd_inT1 h2 h5 e1 e2 (br_t rfl (rd_good1 h2 h5 e1 e2 (br_f (by decide) (rd_cbl1 h2 h5 e1 e2 (fun _ _ => br_t rfl (rd_gc h6 h8 h5 e1 e2 (fun b1 eb1 => br_t rfl (rd_lp h2 h5 h4 eb1 e2 e3 (fun b3 eb3 => br_t rfl (rd_idle1 hx h1 h7 h4 eb1 eb3 (br_t rfl (rd_pl (fun _ => br_t rfl H))))))))))))))))
theorem rd_172_N {k x : Int32} {m c d p : Nat} (hk : k ≠ 0) (hx : rd_end x m) (h1 : 1 ≤ c) (h2 : c ≤ d) (h3 : d ≤ p) (h4 : p ≤ 15) (e1 : a1 0 = nI c) (e2 : a2 0 = nI d) (e3 : a3 0 = nI p) (H : post 1 ()) :
    wL_lawOf_172 post mc ms k x 0 (-1) (-1) (-1) (nI (rd_id c p m)) 1 kc ks 1 1 a1 a2 a3 a4 a5 a6 := by
  have h5 : d ≤ 15 := by omega
  have h7 : c ≤ p := by omega
  exact br_t rfl (rd_respN hk (br_t rfl (rd_inT1 h2 h5 e1 e2 (br_t rfl (rd_good1 h2 h5 e1 e2 (br_f (by decide) (rd_cbl1 h2 h5 e1 e2 (fun _ _ => br_t rfl (rd_gcN hk (br_t rfl (rd_lpN hk (br_t rfl (rd_idle1 hx h1 h7 h4 e1 e3 (br_t rfl (rd_plN hk (br_t rfl H))))))))))))))))
theorem rd_due {c p m : Nat} (h1 : 1 ≤ c) (h2 : c ≤ p) (h4 : p ≤ 15) (hm : m ≤ 60) {r : Nat} (hr : r = min (m % p) c) : nI m - nI m / nI p * nI c - nI r = nI (rd_id c p m) := by
  have hd := Nat.div_add_mod m p
  have hq : m / p * c ≤ m / p * p := Nat.mul_le_mul_left _ h2
  have hc : m / p * p = p * (m / p) := Nat.mul_comm _ _
  subst hr
  rw [pk_div (by omega) (by omega) (by omega), pk_mul, pk_sub (by omega), pk_sub (by omega)]
  rfl
theorem rd_121 {x3 x4 x7 x8 x9 x10 : Int32} {c p m : Nat} (h1 : 1 ≤ c) (h2 : c ≤ p) (h4 : p ≤ 15) (hm : m ≤ 60)
    (H : wL_lawOf_172 post mc ms x3 x4 x7 x8 x9 x10 (nI (rd_id c p m)) 1 kc ks pr ct a1 a2 a3 a4 a5 a6) : wL_lawOf_121 post mc ms (nI c) (nI p) x3 x4 1 x7 x8 x9 x10 (nI m) kc ks pr ct a1 a2 a3 a4 a5 a6 :=
  br_f (by decide) ⟨nI_ne0 (by omega) (by omega), nm_r (pk_rem (by omega) (by omega) (by omega)) ⟨nI_ne0 (by omega) (by omega),
    pk_le c (m % p) (fun g => nm_r (rd_due h1 h2 h4 hm (by omega)) (br_f (by decide) H)) (fun g => nm_r (rd_due h1 h2 h4 hm (by omega)) (br_f (by decide) H)) rfl rfl (by omega) (by have := Nat.mod_le m p; omega)⟩⟩
theorem rd_96 {x0 x2 x3 x4 x6 x7 x8 x9 x10 : Int32} (H : ∀ m, rd_end x4 m → wL_lawOf_121 post mc ms x0 x2 x3 x4 x6 x7 x8 x9 x10 (nI m) kc ks pr ct a1 a2 a3 a4 a5 a6) :
    wL_lawOf_96 post mc ms x0 x2 x3 x4 x6 x7 x8 x9 x10 kc ks pr ct a1 a2 a3 a4 a5 a6 := by
  refine br_c (fun g => br_c (fun g2 => ?_) (fun g2 => H 60 ⟨by omega, fun t t1 t2 => ?_⟩)) (fun g => H 0 ⟨by omega, fun t t1 t2 => ?_⟩)
  · have g' : ¬ x4 < 0 := Int32.not_lt.mpr g
    obtain ⟨j, hj, rfl⟩ := nI_of2 (M := 60) (n := 60) (by decide) g' g2
    exact H j ⟨hj, fun t t1 t2 => nI_ltI (by omega) (by omega)⟩
  · have g3 : (60 : Int32) < x4 := Int32.not_le.mp g2
    have g4 : nI t ≤ 60 := nI_le (b := 60) t2 (by omega)
    exact ⟨fun z => absurd (Int32.lt_trans z (Int32.lt_of_le_of_lt g4 g3)) (fun q => Int32.lt_irrefl q), fun z => absurd z (by omega)⟩
  · have g3 : x4 < 0 := Int32.not_le.mp g
    exact ⟨fun _ => by omega, fun _ => Int32.lt_of_lt_of_le g3 (nI_pos' (by omega))⟩
/-- the script's first three ints are no task: the desk stays empty -/
theorem rd_34 {x y z k n : Int32} (hN : ¬ (¬ x < 1 ∧ ¬ y < x ∧ ¬ z < y ∧ ¬ 15 < z)) (H : post 1 ()) : wL_lawOf_34 post mc ms x y z k n kc ks 0 0 a1 a2 a3 a4 a5 a6 := by
  unfold wL_lawOf_34 wL_lawOf_35
  exact rd_addN hN (br_t rfl (br_t rfl (br_t rfl (br_t rfl (rd_96 (fun m hm => br_t rfl (br_t rfl (rd_172_0 hm H))))))))
theorem rd_35 {c d p : Nat} {k n : Int32} (h1 : 1 ≤ c) (h2 : c ≤ d) (h3 : d ≤ p) (h4 : p ≤ 15) (H : post 1 ()) : wL_lawOf_35 post mc ms (nI c) (nI d) (nI p) k n 1 kc ks 0 0 a1 a2 a3 a4 a5 a6 := by
  unfold wL_lawOf_35
  refine rd_add h1 h2 h3 h4 (fun b1 b2 b3 b4 e1 e2 e3 => br_f (by decide) (br_c (fun hk => ?_) (fun hk => ?_)))
  · subst hk
    obtain ⟨e, rfl⟩ : ∃ e, d = e + 1 := ⟨d - 1, by omega⟩
    exact br_f (by decide) (br_f (by decide) (br_f (by decide) (rd_96 (fun m hm => rd_121 h1 (by omega) h4 hm.1 (rd_172_1 hm h1 h2 h3 h4 e1 e2 e3 H)))))
  · exact br_t rfl (br_t rfl (br_t rfl (rd_96 (fun m hm => rd_121 h1 (by omega) h4 hm.1 (rd_172_N hk hm h1 h2 h3 h4 e1 e2 e3 H)))))
theorem rd_fit {x y z : Int32} (h : ¬ x < 1 ∧ ¬ y < x ∧ ¬ z < y ∧ ¬ 15 < z) : ∃ c d p : Nat, 1 ≤ c ∧ c ≤ d ∧ d ≤ p ∧ p ≤ 15 ∧ x = nI c ∧ y = nI d ∧ z = nI p := by
  obtain ⟨g1, g2, g3, g4⟩ := h
  rw [Int32.lt_iff_toInt_lt] at g1 g2 g3 g4
  have o : (1 : Int32).toInt = 1 := by decide
  have f : (15 : Int32).toInt = 15 := by decide
  have t : (0 : Int32).toInt = 0 := by decide
  rw [o] at g1
  rw [f] at g4
  obtain ⟨c, hc, rfl⟩ := nI_of (x := x) (by rw [Int32.lt_iff_toInt_lt, t]; omega)
  obtain ⟨d, hd, rfl⟩ := nI_of (x := y) (by rw [Int32.lt_iff_toInt_lt, t]; omega)
  obtain ⟨p, hp, rfl⟩ := nI_of (x := z) (by rw [Int32.lt_iff_toInt_lt, t]; omega)
  rw [nI_toInt hc] at g1 g2
  rw [nI_toInt hd] at g2 g3
  rw [nI_toInt hp] at g3 g4
  exact ⟨c, d, p, by omega, by omega, by omega, by omega, rfl, rfl, rfl⟩
theorem rd_lawOf (x y z k n : Int32) (H : post 1 ()) : wpL_lawOf post 7 92 () x y z k n := by
  refine ⟨by omega, by omega, 6, 84, by omega, by omega, by omega, by omega, by omega, by omega, by omega, by omega, by omega, by omega, by omega, by omega, by omega, by omega, ?_⟩
  by_cases F : ¬ x < 1 ∧ ¬ y < x ∧ ¬ z < y ∧ ¬ 15 < z
  · obtain ⟨c, d, p, h1, h2, h3, h4, rfl, rfl, rfl⟩ := rd_fit F
    exact br_f F.1 (br_f F.2.1 (br_f F.2.2.1 (br_f F.2.2.2 (rd_35 h1 h2 h3 h4 H))))
  · exact br_c (fun _ => rd_34 F H) (fun g1 => br_c (fun _ => rd_34 F H) (fun g2 => br_c (fun _ => rd_34 F H) (fun g3 => br_c (fun _ => rd_34 F H) (fun g4 => absurd ⟨g1, g2, g3, g4⟩ F))))
end
theorem rd_cell {post : Int32 → Prop} {L : Nat} {xs : Nat → Int32} (hL : L ≤ 5) (i : Nat) (hi : i < 5) (h : ∀ v, post v) : wpL_cellAt post L xs () (nI i) :=
  pk_le L i (fun _ => h 0) (fun g => ⟨pk_in i L g, h _⟩)
theorem i_vc (xs : Nat → Int32) (L : Nat) (hL : L ≤ 5) : wpL_law (fun r => r = 1) L xs :=
  rd_cell hL 0 (by omega) (fun r1 => rd_cell hL 1 (by omega) (fun r2 => rd_cell hL 2 (by omega) (fun r3 => rd_cell hL 3 (by omega) (fun r4 => rd_cell hL 4 (by omega) (fun r5 => ⟨7, 92, by omega, by omega, rd_lawOf r1 r2 r3 r4 r5 rfl⟩)))))
end
