/-! the model's joy -/
theorem LT_joy {σ : St} {V : VV} {g d : Nat} (hI : IM σ V) (hg : g < vg V) (hd : d < vn V) (h28 : gI σ 28 = nI g) (h29 : gI σ 29 = nI d) : LT_ σ (letV V g d) := by
  intro FT FH c p Q hc hp h
  have hn := hI.2.n
  have hgl := hI.2.g
  have hs := (hI.2.d hd).2.1
  have hlo := hI.2.gs hg
  unfold wm_thing_j153
  rw [show mI_at (rN σ (nI p) (-1)) = nI p from rfl, nI_1]
  show if mI_askedGuest (sI (rN σ (nI p) (-1)) 24 (nI (p + 1))) = (-1) then wm_thing_j180 FT FH Q 0 (sI (rN σ (nI p) (-1)) 24 (nI (p + 1))) else sm_letter (sI (rN σ (nI p) (-1)) 24 (nI (p + 1))) (nI c) (fun r177 σ177 => wm_thing_j180 FT FH Q r177 σ177)
  rw [rN_at, show mI_askedGuest (rN σ (nI (p + 1)) (-1)) = nI g from h28, if_neg (m1_nI (by omega))]
  have v11 : vp_in (mI_askedDish (rN σ (nI (p + 1)) (-1))) 11 := by rw [show mI_askedDish (rN σ (nI (p + 1)) (-1)) = nI d from h29]; exact vp_in_nI (by omega) (by omega)
  have v6 : vp_in (mI_askedGuest (rN σ (nI (p + 1)) (-1))) 6 := by rw [show mI_askedGuest (rN σ (nI (p + 1)) (-1)) = nI g from h28]; exact vp_in_nI (by omega) (by omega)
  have iD : (mI_askedDish (rN σ (nI (p + 1)) (-1))).toNatClampNeg = d := by rw [show mI_askedDish (rN σ (nI (p + 1)) (-1)) = nI d from h29, cl (by omega)]
  have iG : (mI_askedGuest (rN σ (nI (p + 1)) (-1))).toNatClampNeg = g := by rw [show mI_askedGuest (rN σ (nI (p + 1)) (-1)) = nI g from h28, cl (by omega)]
  have fD : ∀ x, x = letV V g d (nI c) → Q x (rN σ (nI (p + 1)) (-1)) := fun x ex => by rw [ex]; exact h
  have and1 : ∀ y : Nat, vst V d &&& y < 2048 := fun y => Nat.lt_of_le_of_lt Nat.and_le_left (by omega)
  rcases (isLt_iff c).mp hc with rfl | rfl | rfl | rfl | rfl | rfl | rfl | rfl
  · refine (show _ ∧ _ ∧ _ from ⟨v11, v6, fD (bitC (mA_stuffs (rN σ (nI (p + 1)) (-1)) (mI_askedDish (rN σ (nI (p + 1)) (-1))).toNatClampNeg &&& mA_loves (rN σ (nI (p + 1)) (-1)) (mI_askedGuest (rN σ (nI (p + 1)) (-1))).toNatClampNeg)) ?_⟩ : vp_in (mI_askedDish (rN σ (nI (p + 1)) (-1))) 11 ∧ vp_in (mI_askedGuest (rN σ (nI (p + 1)) (-1))) 6 ∧ _)
    rw [iD, iG, show mA_stuffs (rN σ (nI (p + 1)) (-1)) d = _ from hI.st hd, show mA_loves (rN σ (nI (p + 1)) (-1)) g = _ from hI.lo hg, nI_and, bitC_nI (and1 _), Nat.and_comm]; rfl
  · refine (show _ ∧ _ ∧ _ from ⟨v11, v6, fD (bitC (mA_stuffs (rN σ (nI (p + 1)) (-1)) (mI_askedDish (rN σ (nI (p + 1)) (-1))).toNatClampNeg &&& mA_bars (rN σ (nI (p + 1)) (-1)) (mI_askedGuest (rN σ (nI (p + 1)) (-1))).toNatClampNeg)) ?_⟩ : vp_in (mI_askedDish (rN σ (nI (p + 1)) (-1))) 11 ∧ vp_in (mI_askedGuest (rN σ (nI (p + 1)) (-1))) 6 ∧ _)
    rw [iD, iG, show mA_stuffs (rN σ (nI (p + 1)) (-1)) d = _ from hI.st hd, show mA_bars (rN σ (nI (p + 1)) (-1)) g = _ from hI.ba hg, nI_and, bitC_nI (and1 _), Nat.and_comm]; rfl
  · refine (show _ ∧ _ from ⟨v11, fD (bitC (mA_stuffs (rN σ (nI (p + 1)) (-1)) (mI_askedDish (rN σ (nI (p + 1)) (-1))).toNatClampNeg)) ?_⟩ : vp_in (mI_askedDish (rN σ (nI (p + 1)) (-1))) 11 ∧ _)
    rw [iD, show mA_stuffs (rN σ (nI (p + 1)) (-1)) d = _ from hI.st hd, bitC_nI (by omega)]; rfl
  · refine (show _ ∧ _ from ⟨v11, fD (mA_cost (rN σ (nI (p + 1)) (-1)) (mI_askedDish (rN σ (nI (p + 1)) (-1))).toNatClampNeg) ?_⟩ : vp_in (mI_askedDish (rN σ (nI (p + 1)) (-1))) 11 ∧ _)
    rw [iD, show mA_cost (rN σ (nI (p + 1)) (-1)) d = _ from hI.co hd]; rfl
  · refine (show _ ∧ _ from ⟨v11, ?_⟩ : vp_in (mI_askedDish (rN σ (nI (p + 1)) (-1))) 11 ∧ (if mA_isHot (rN σ (nI (p + 1)) (-1)) (mI_askedDish (rN σ (nI (p + 1)) (-1))).toNatClampNeg = 0 then _ else _))
    rw [iD, show mA_isHot (rN σ (nI (p + 1)) (-1)) d = _ from hI.hot hd]
    have e : letV V g d (nI 104) = j01 (hotV V d) := rfl
    rw [e] at fD
    cases q : hotV V d with
    | false => rw [jf0]; exact fD 0 (by rw [q]; rfl)
    | true => rw [jt0]; exact fD 1 (by rw [q]; rfl)
  · refine (show _ ∧ _ from ⟨v11, fD (mA_hours (rN σ (nI (p + 1)) (-1)) (mI_askedDish (rN σ (nI (p + 1)) (-1))).toNatClampNeg) ?_⟩ : vp_in (mI_askedDish (rN σ (nI (p + 1)) (-1))) 11 ∧ _)
    rw [iD, show mA_hours (rN σ (nI (p + 1)) (-1)) d = _ from hI.ho hd]; rfl
  · exact fD (mI_askedGuest (rN σ (nI (p + 1)) (-1))) h28
  · exact fD (mI_askedDish (rN σ (nI (p + 1)) (-1))) h29
theorem om_joyOf {σ : St} {V : VV} {g d : Nat} {P : Int32 → St → Prop} (hI : IM σ V) (hg : g < vg V) (hd : d < vn V) (h : ∀ σ', IM σ' V → Kp [1, 6, 9, 10, 11, 13, 17, 19, 20, 27, 30, 31, 32, 33, 34, 39, 49] [0, 2, 3, 4, 5, 7, 8, 12, 14, 15, 16, 18, 26, 35, 36, 38, 40, 41, 42, 43, 44, 45, 47, 48, 50, 51, 52] σ σ' → (∀ k, gL σ' k = gL σ k) → P (joyV V g d) σ') : wm_joyOf σ (nI g) (nI d) P := by
  have hn := hI.2.n
  have hgl := hI.2.g
  have hs := (hI.2.d hd).2.1
  have hr : ruleM σ (vru V) := hI.1.2.2.2.2.2.2.2.2.2.2
  unfold wm_joyOf
  unfold joyV at h
  cases hv : vru V with
  | none =>
    rw [hv] at hr h
    rw [show mI_ruleSize σ = 0 from hr, if_pos rfl, cl (by omega), cl (by omega), show mA_stuffs σ d = _ from hI.st hd, show mA_loves σ g = _ from hI.lo hg, nI_and, bitC_nI (Nat.lt_of_le_of_lt Nat.and_le_left (by omega)), Nat.and_comm]
    exact ⟨vp_in_nI (by omega) (by omega), vp_in_nI (by omega) (by omega), h σ hI (Kp.rf _ _ _) fun _ => rfl⟩
  | some D =>
    rw [hv] at hr h
    obtain ⟨bs, h27, hpos, h40, hb, h26, hp⟩ := hr
    rw [show mI_ruleSize σ = nI bs.length from h27, if_neg (fun z => by have := (nI_eq0 (by omega)).mp z; omega)]
    refine ⟨Or.inr rfl, ?_⟩
    -- the state that is asked
    have eσ : mS_askedDish (mS_askedGuest (mS_wrong (mS_at (mS_top (mS_size (sI σ 21 2) (nI bs.length)) 40) 0) (-1)) (nI g)) (nI d) = rN (sI (sI (sI (sI (sI σ 21 2) 22 (nI bs.length)) 23 40) 28 (nI g)) 29 (nI d)) 0 (-1) := by
      show sI (sI (rN (sI (sI (sI σ 21 2) 22 (nI bs.length)) 23 40) 0 (-1)) 28 (nI g)) 29 (nI d) = _
      rw [rN_ot _ _ _ (by decide) (by decide), rN_ot _ _ _ (by decide) (by decide)]
    dsimp only
    rw [eσ]
    have hI2 : IM (sI (sI (sI (sI (sI σ 21 2) 22 (nI bs.length)) 23 40) 28 (nI g)) 29 (nI d)) V := ((((hI.qI (by decide) _).qI (by decide) _).qI (by decide) _).qI (by decide) _).qI (by decide) _
    refine om_held (e := letV V g d) (bs := bs) ⟨⟨bs.length, 40, rfl, rfl, by omega, by omega, by omega⟩, hb, Or.inr ⟨rfl, h40, h26⟩⟩ (LT_joy hI2 hg hd rfl rfl) h40 ?_
    rw [hp]
    refine h _ (rN_IM hI2 _ _) ?_ fun _ => rfl
    exact (((((((Kp.sI (by decide) _ _).tr (Kp.sI (by decide) _ _)).tr (Kp.sI (by decide) _ _)).tr (Kp.sI (by decide) _ _)).tr (Kp.sI (by decide) _ _)).tr (Kp.sI (by decide) _ _)).tr (Kp.sI (by decide) _ _))
