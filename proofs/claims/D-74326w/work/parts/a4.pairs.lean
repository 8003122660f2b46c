set_option maxRecDepth 100000
set_option maxHeartbeats 4000000
/-! the pairs of simple calls: both answer alike, both stand for the same state behind them (printed by gen/pairs.py) -/
section
variable {K : Nat → Nat → Nat} {a : Nat → Nat} {σ : PS} {ch : List Nat} {S : MS} {S0 : CS} {N : NM} {MC MS : Nat}
theorem p_ways (hK : kOk K) (m0 : mRs σ S) (c0 : cRt K a σ ch S0 N) (hMC : 9000 ≤ MC) (hMS : 100000 ≤ MS) (x_z : Int32) (x_n : Int32) : ∃ v σ', wX0_ways K (fun r N' => r = v ∧ cRs K a σ' ch N') MC MS N (a 0) x_z x_n ∧ wX1_ways (fun r S' => r = v ∧ mRs σ' S') S x_z x_n := by
  obtain ⟨z, rfl, hz⟩ := i32_ex x_z
  obtain ⟨n, rfl, hn⟩ := i32_ex x_n
  obtain ⟨mF, mT, mf, mL, mU, mi, mS⟩ := id m0
  obtain ⟨cl, cs, ct, cd, cu, cf, ci, cw⟩ := id c0
  by_cases h : 0 ≤ z ∧ z ≤ 3 ∧ σ.1 z.toNat ≠ [] ∧ -3000 ≤ n ∧ n ≤ 3000
  · refine ⟨(lI (Wy (σ.1 z.toNat) n)), σ, c_ways hK cl cs cd hz hn (by omega) (by omega) (fun c => (c h).elim) (fun s S' N' b0 b1 b2 b3 b4 b5 => ⟨by subst b1; rfl, fun _ => ⟨_, c0.Q (b5.Q cl cu)⟩⟩), m_ways mF mL hz hn (fun c => (c h).elim) (fun s g b0 b1 b2 b3 b4 b5 => ⟨by subst b1; rfl, m0.laid ⟨rfl, rfl, rfl, rfl, rfl, rfl, rfl, rfl, rfl, rfl, rfl, rfl, rfl, rfl, rfl, rfl⟩ rfl rfl (Or.inr ⟨s, b0, rfl, b2, b5⟩)⟩)⟩
  · refine ⟨(lI (-1)), σ, c_ways hK cl cs cd hz hn (by omega) (by omega) (fun _  => ⟨rfl, fun _ => ⟨_, c0⟩⟩) (fun s S' N' b0 b1 b2 b3 b4 b5 => (h (by subst b1; exact ⟨by first | omega | exact b2, by first | omega | exact b2, by first | omega | exact b2, by first | omega | exact b2, by first | omega | exact b2⟩)).elim), m_ways mF mL hz hn (fun _  => ⟨rfl, m0⟩) (fun s g b0 b1 b2 b3 b4 b5 => (h (by subst b1; exact ⟨by first | omega | exact b2, by first | omega | exact b2, by first | omega | exact b2, by first | omega | exact b2, by first | omega | exact b2⟩)).elim)⟩
theorem p_unlike (hK : kOk K) (m0 : mRs σ S) (c0 : cRt K a σ ch S0 N) (hMC : 9000 ≤ MC) (hMS : 100000 ≤ MS) (x_z : Int32) (x_n : Int32) : ∃ v σ', wX0_unlike K (fun r N' => r = v ∧ cRs K a σ' ch N') MC MS N (a 0) x_z x_n ∧ wX1_unlike (fun r S' => r = v ∧ mRs σ' S') S x_z x_n := by
  obtain ⟨z, rfl, hz⟩ := i32_ex x_z
  obtain ⟨n, rfl, hn⟩ := i32_ex x_n
  obtain ⟨mF, mT, mf, mL, mU, mi, mS⟩ := id m0
  obtain ⟨cl, cs, ct, cd, cu, cf, ci, cw⟩ := id c0
  by_cases h : 0 ≤ z ∧ z ≤ 3 ∧ σ.1 z.toNat ≠ [] ∧ -3000 ≤ n ∧ n ≤ 3000
  · refine ⟨(lI (unS (σ.1 z.toNat) n)), σ, c_unlike hK cl cs cu hz hn (by omega) (by omega) (fun c => (c h).elim) (fun s S' N' b0 b1 b2 b3 b4 b5 => ⟨by subst b1; rfl, fun _ => ⟨_, c0.Q (b5.Q cl cd)⟩⟩), m_unlike mF mL mU hz hn (fun c => (c h).elim) (fun s S' b0 b1 b2 b3 b4 b5 b6 b7 => ⟨by subst b1; rfl, m0.ul b5 b6 b7⟩)⟩
  · refine ⟨(lI (-1)), σ, c_unlike hK cl cs cu hz hn (by omega) (by omega) (fun _  => ⟨rfl, fun _ => ⟨_, c0⟩⟩) (fun s S' N' b0 b1 b2 b3 b4 b5 => (h (by subst b1; exact ⟨by first | omega | exact b2, by first | omega | exact b2, by first | omega | exact b2, by first | omega | exact b2, by first | omega | exact b2⟩)).elim), m_unlike mF mL mU hz hn (fun _  => ⟨rfl, m0⟩) (fun s S' b0 b1 b2 b3 b4 b5 b6 b7 => (h (by subst b1; exact ⟨by first | omega | exact b2, by first | omega | exact b2, by first | omega | exact b2, by first | omega | exact b2, by first | omega | exact b2⟩)).elim)⟩
theorem p_missed (hK : kOk K) (m0 : mRs σ S) (c0 : cRt K a σ ch S0 N) (hMC : 9000 ≤ MC) (hMS : 100000 ≤ MS) (x_z : Int32) (x_x : Int32) (x_y : Int32) (x_i : Int32) : ∃ v σ', wX0_missed K (fun r N' => r = v ∧ cRs K a σ' ch N') MC MS N (a 0) x_z x_x x_y x_i ∧ wX1_missed (fun r S' => r = v ∧ mRs σ' S') S x_z x_x x_y x_i := by
  obtain ⟨z, rfl, hz⟩ := i32_ex x_z
  obtain ⟨x, rfl, hx⟩ := i32_ex x_x
  obtain ⟨y, rfl, hy⟩ := i32_ex x_y
  obtain ⟨i, rfl, hi⟩ := i32_ex x_i
  obtain ⟨mF, mT, mf, mL, mU, mi, mS⟩ := id m0
  obtain ⟨cl, cs, ct, cd, cu, cf, ci, cw⟩ := id c0
  by_cases h : 0 ≤ z ∧ z ≤ 3 ∧ σ.1 z.toNat ≠ [] ∧ -3000 ≤ x ∧ x ≤ y ∧ y ≤ 3000
  · refine ⟨(iI (missR (Wy (σ.1 z.toNat)) i (y - x + 1).toNat 0 x)), σ, c_missed hK cl cs cd hz hx hy hi (by omega) (by omega) (fun c => (c h).elim) (fun s S' N' b0 b1 b2 b3 b4 b5 b6 => ⟨by subst b1; rfl, fun _ => ⟨_, c0.Q (b6.Q cl cu)⟩⟩), m_missed mF mL hz hx hy hi (fun c => (c h).elim) (fun s g b0 b1 b2 b3 b4 b5 b6 => ⟨by subst b1; rfl, m0.laid ⟨rfl, rfl, rfl, rfl, rfl, rfl, rfl, rfl, rfl, rfl, rfl, rfl, rfl, rfl, rfl, rfl⟩ rfl rfl (Or.inr ⟨s, b0, rfl, b2, b6⟩)⟩)⟩
  · refine ⟨(iI (-100000)), σ, c_missed hK cl cs cd hz hx hy hi (by omega) (by omega) (fun _  => ⟨rfl, fun _ => ⟨_, c0⟩⟩) (fun s S' N' b0 b1 b2 b3 b4 b5 b6 => (h (by subst b1; exact ⟨by first | omega | exact b2, by first | omega | exact b2, by first | omega | exact b2, by first | omega | exact b2, by first | omega | exact b2, by first | omega | exact b2⟩)).elim), m_missed mF mL hz hx hy hi (fun _  => ⟨rfl, m0⟩) (fun s g b0 b1 b2 b3 b4 b5 b6 => (h (by subst b1; exact ⟨by first | omega | exact b2, by first | omega | exact b2, by first | omega | exact b2, by first | omega | exact b2, by first | omega | exact b2, by first | omega | exact b2⟩)).elim)⟩
theorem p_explained (hK : kOk K) (m0 : mRs σ S) (c0 : cRt K a σ ch S0 N) (hMC : 9000 ≤ MC) (hMS : 100000 ≤ MS) (x_z : Int32) (x_x : Int32) (x_y : Int32) (x_m : Int32) : ∃ v σ', wX0_explained K (fun r N' => r = v ∧ cRs K a σ' ch N') MC MS N (a 0) x_z x_x x_y x_m ∧ wX1_explained (fun r S' => r = v ∧ mRs σ' S') S x_z x_x x_y x_m := by
  obtain ⟨z, rfl, hz⟩ := i32_ex x_z
  obtain ⟨x, rfl, hx⟩ := i32_ex x_x
  obtain ⟨y, rfl, hy⟩ := i32_ex x_y
  obtain ⟨m, rfl, hm⟩ := i32_ex x_m
  obtain ⟨mF, mT, mf, mL, mU, mi, mS⟩ := id m0
  obtain ⟨cl, cs, ct, cd, cu, cf, ci, cw⟩ := id c0
  by_cases h : 0 ≤ z ∧ z ≤ 3 ∧ σ.1 z.toNat ≠ [] ∧ -3000 ≤ x ∧ x ≤ y ∧ y ≤ 3000 ∧ 1 ≤ m ∧ m ≤ 60
  · refine ⟨(iI (expR (Wy (σ.1 z.toNat)) (Cl m (σ.1 z.toNat)) m (y - x + 1).toNat 0 x)), σ, c_explained hK cl cs cd cu hz hx hy hm (by omega) (by omega) (fun c => (c h).elim) (fun s S' N' b0 b1 b2 b3 b4 b5 b6 b7 b8 => ⟨by subst b1; rfl, fun _ => ⟨_, c0.Q b8⟩⟩), m_explained mF mL hz hx hy hm (fun c => (c h).elim) (fun s g g2 b0 b1 b2 b3 b4 b5 b6 b7 b8 => ⟨by subst b1; rfl, m0.laid ⟨rfl, rfl, rfl, rfl, rfl, rfl, rfl, rfl, rfl, rfl, rfl, rfl, rfl, rfl, rfl, rfl⟩ rfl rfl (Or.inr ⟨s, b0, rfl, b2, b8⟩)⟩)⟩
  · refine ⟨(iI (-1)), σ, c_explained hK cl cs cd cu hz hx hy hm (by omega) (by omega) (fun _  => ⟨rfl, fun _ => ⟨_, c0⟩⟩) (fun s S' N' b0 b1 b2 b3 b4 b5 b6 b7 b8 => (h (by subst b1; exact ⟨by first | omega | exact b2, by first | omega | exact b2, by first | omega | exact b2, by first | omega | exact b2, by first | omega | exact b2, by first | omega | exact b2, by first | omega | exact b2, by first | omega | exact b2⟩)).elim), m_explained mF mL hz hx hy hm (fun _  => ⟨rfl, m0⟩) (fun s g g2 b0 b1 b2 b3 b4 b5 b6 b7 b8 => (h (by subst b1; exact ⟨by first | omega | exact b2, by first | omega | exact b2, by first | omega | exact b2, by first | omega | exact b2, by first | omega | exact b2, by first | omega | exact b2, by first | omega | exact b2, by first | omega | exact b2⟩)).elim)⟩
theorem p_full (hK : kOk K) (m0 : mRs σ S) (c0 : cRt K a σ ch S0 N) (hMC : 9000 ≤ MC) (hMS : 100000 ≤ MS) (x_z : Int32) : ∃ v σ', wX0_full K (fun r N' => r = v ∧ cRs K a σ' ch N') MC MS N (a 0) x_z ∧ wX1_full (fun r S' => r = v ∧ mRs σ' S') S x_z := by
  obtain ⟨z, rfl, hz⟩ := i32_ex x_z
  obtain ⟨mF, mT, mf, mL, mU, mi, mS⟩ := id m0
  obtain ⟨cl, cs, ct, cd, cu, cf, ci, cw⟩ := id c0
  by_cases h : 0 ≤ z ∧ z ≤ 3 ∧ σ.1 z.toNat ≠ []
  · refine ⟨(iI (fullS (Wy (σ.1 z.toNat)))), σ, c_full hK cl cs cd hz (by omega) (by omega) (fun c => (c h).elim) (fun s S' N' b0 b1 b2 b3 => ⟨by subst b1; rfl, fun _ => ⟨_, c0.Q (b3.Q cl cu)⟩⟩), m_full mF mL hz (fun c => (c h).elim) (fun s g b0 b1 b2 b3 => ⟨by subst b1; rfl, m0.laid ⟨rfl, rfl, rfl, rfl, rfl, rfl, rfl, rfl, rfl, rfl, rfl, rfl, rfl, rfl, rfl, rfl⟩ rfl rfl (Or.inr ⟨s, b0, rfl, b2, b3⟩)⟩)⟩
  · refine ⟨(iI (-1)), σ, c_full hK cl cs cd hz (by omega) (by omega) (fun _  => ⟨rfl, fun _ => ⟨_, c0⟩⟩) (fun s S' N' b0 b1 b2 b3 => (h (by subst b1; exact ⟨by first | omega | exact b2, by first | omega | exact b2, by first | omega | exact b2⟩)).elim), m_full mF mL hz (fun _  => ⟨rfl, m0⟩) (fun s g b0 b1 b2 b3 => (h (by subst b1; exact ⟨by first | omega | exact b2, by first | omega | exact b2, by first | omega | exact b2⟩)).elim)⟩
theorem p_met (hK : kOk K) (m0 : mRs σ S) (c0 : cRt K a σ ch S0 N) (hMC : 9000 ≤ MC) (hMS : 100000 ≤ MS) (x_z : Int32) (x_m : Int32) (x_r : Int32) : ∃ v σ', wX0_met K (fun r N' => r = v ∧ cRs K a σ' ch N') MC MS N (a 0) x_z x_m x_r ∧ wX1_met (fun r S' => r = v ∧ mRs σ' S') S x_z x_m x_r := by
  obtain ⟨z, rfl, hz⟩ := i32_ex x_z
  obtain ⟨m, rfl, hm⟩ := i32_ex x_m
  obtain ⟨r, rfl, hr⟩ := i32_ex x_r
  obtain ⟨mF, mT, mf, mL, mU, mi, mS⟩ := id m0
  obtain ⟨cl, cs, ct, cd, cu, cf, ci, cw⟩ := id c0
  by_cases h : 0 ≤ z ∧ z ≤ 3 ∧ σ.1 z.toNat ≠ [] ∧ 1 ≤ m ∧ m ≤ 60 ∧ 0 ≤ r ∧ r < m
  · refine ⟨(lI (Cl m (σ.1 z.toNat) r)), σ, c_met hK cl cs cd cu hz hm hr (by omega) (by omega) (fun c => (c h).elim) (fun s S' N' b0 b1 b2 b3 b4 b5 b6 b7 => ⟨by subst b1; rfl, fun _ => ⟨_, c0.Q b7⟩⟩), m_met mF hz hm hr (fun c => (c h).elim) (fun s g b0 b1 b2 b3 b4 b5 b6 => ⟨by subst b1; rfl, m0.laid ⟨rfl, rfl, rfl, rfl, rfl, rfl, rfl, rfl, rfl, rfl, rfl, rfl, rfl, rfl, rfl, rfl⟩ rfl rfl (mL.rd rfl rfl)⟩)⟩
  · refine ⟨(lI (-1)), σ, c_met hK cl cs cd cu hz hm hr (by omega) (by omega) (fun _  => ⟨rfl, fun _ => ⟨_, c0⟩⟩) (fun s S' N' b0 b1 b2 b3 b4 b5 b6 b7 => (h (by subst b1; exact ⟨by first | omega | exact b2, by first | omega | exact b2, by first | omega | exact b2, by first | omega | exact b2, by first | omega | exact b2, by first | omega | exact b2, by first | omega | exact b2⟩)).elim), m_met mF hz hm hr (fun _  => ⟨rfl, m0⟩) (fun s g b0 b1 b2 b3 b4 b5 b6 => (h (by subst b1; exact ⟨by first | omega | exact b2, by first | omega | exact b2, by first | omega | exact b2, by first | omega | exact b2, by first | omega | exact b2, by first | omega | exact b2, by first | omega | exact b2⟩)).elim)⟩
theorem p_meets (hK : kOk K) (m0 : mRs σ S) (c0 : cRt K a σ ch S0 N) (hMC : 9000 ≤ MC) (hMS : 100000 ≤ MS) (x_z : Int32) (x_m : Int32) (x_r : Int32) (x_i : Int32) : ∃ v σ', wX0_meets K (fun r N' => r = v ∧ cRs K a σ' ch N') MC MS N (a 0) x_z x_m x_r x_i ∧ wX1_meets (fun r S' => r = v ∧ mRs σ' S') S x_z x_m x_r x_i := by
  obtain ⟨z, rfl, hz⟩ := i32_ex x_z
  obtain ⟨m, rfl, hm⟩ := i32_ex x_m
  obtain ⟨r, rfl, hr⟩ := i32_ex x_r
  obtain ⟨i, rfl, hi⟩ := i32_ex x_i
  obtain ⟨mF, mT, mf, mL, mU, mi, mS⟩ := id m0
  obtain ⟨cl, cs, ct, cd, cu, cf, ci, cw⟩ := id c0
  by_cases h : 0 ≤ z ∧ z ≤ 3 ∧ σ.1 z.toNat ≠ [] ∧ 1 ≤ m ∧ m ≤ 60 ∧ 0 ≤ r ∧ r < m ∧ 0 ≤ i ∧ i < (σ.1 z.toNat).length
  · refine ⟨(iI (if Cl m (σ.1 z.toNat) r = 0 then -1 else meeR m (σ.1 z.toNat) r i.toNat)), σ, c_meets hK cl cs cd cu hz hm hr hi (by omega) (by omega) (fun c => (c h).elim) (fun s j S' N' b0 b1 b2 b3 b4 b5 b6 b7 b8 b9 => ⟨by subst b1 b7; rfl, fun _ => ⟨_, c0.Q b9⟩⟩), m_meets mF hz hm hr hi (fun c => (c h).elim) (fun s j g b0 b1 b2 b3 b4 b5 b6 b7 b8 => ⟨by subst b1 b7; rfl, m0.laid ⟨rfl, rfl, rfl, rfl, rfl, rfl, rfl, rfl, rfl, rfl, rfl, rfl, rfl, rfl, rfl, rfl⟩ rfl rfl (mL.rd rfl rfl)⟩)⟩
  · refine ⟨(iI (-1)), σ, c_meets hK cl cs cd cu hz hm hr hi (by omega) (by omega) (fun _  => ⟨rfl, fun _ => ⟨_, c0⟩⟩) (fun s j S' N' b0 b1 b2 b3 b4 b5 b6 b7 b8 b9 => (h (by subst b1 b7; exact ⟨by first | omega | exact b2 | exact Int.ofNat_lt.mpr b8 | exact b8, by first | omega | exact b2 | exact Int.ofNat_lt.mpr b8 | exact b8, by first | omega | exact b2 | exact Int.ofNat_lt.mpr b8 | exact b8, by first | omega | exact b2 | exact Int.ofNat_lt.mpr b8 | exact b8, by first | omega | exact b2 | exact Int.ofNat_lt.mpr b8 | exact b8, by first | omega | exact b2 | exact Int.ofNat_lt.mpr b8 | exact b8, by first | omega | exact b2 | exact Int.ofNat_lt.mpr b8 | exact b8, by first | omega | exact b2 | exact Int.ofNat_lt.mpr b8 | exact b8, by first | omega | exact b2 | exact Int.ofNat_lt.mpr b8 | exact b8⟩)).elim), m_meets mF hz hm hr hi (fun _  => ⟨rfl, m0⟩) (fun s j g b0 b1 b2 b3 b4 b5 b6 b7 b8 => (h (by subst b1 b7; exact ⟨by first | omega | exact b2 | exact Int.ofNat_lt.mpr b8 | exact b8, by first | omega | exact b2 | exact Int.ofNat_lt.mpr b8 | exact b8, by first | omega | exact b2 | exact Int.ofNat_lt.mpr b8 | exact b8, by first | omega | exact b2 | exact Int.ofNat_lt.mpr b8 | exact b8, by first | omega | exact b2 | exact Int.ofNat_lt.mpr b8 | exact b8, by first | omega | exact b2 | exact Int.ofNat_lt.mpr b8 | exact b8, by first | omega | exact b2 | exact Int.ofNat_lt.mpr b8 | exact b8, by first | omega | exact b2 | exact Int.ofNat_lt.mpr b8 | exact b8, by first | omega | exact b2 | exact Int.ofNat_lt.mpr b8 | exact b8⟩)).elim)⟩
theorem p_never (hK : kOk K) (m0 : mRs σ S) (c0 : cRt K a σ ch S0 N) (hMC : 9000 ≤ MC) (hMS : 100000 ≤ MS) (x_z : Int32) (x_m : Int32) (x_i : Int32) : ∃ v σ', wX0_never K (fun r N' => r = v ∧ cRs K a σ' ch N') MC MS N (a 0) x_z x_m x_i ∧ wX1_never (fun r S' => r = v ∧ mRs σ' S') S x_z x_m x_i := by
  obtain ⟨z, rfl, hz⟩ := i32_ex x_z
  obtain ⟨m, rfl, hm⟩ := i32_ex x_m
  obtain ⟨i, rfl, hi⟩ := i32_ex x_i
  obtain ⟨mF, mT, mf, mL, mU, mi, mS⟩ := id m0
  obtain ⟨cl, cs, ct, cd, cu, cf, ci, cw⟩ := id c0
  by_cases h : 0 ≤ z ∧ z ≤ 3 ∧ σ.1 z.toNat ≠ [] ∧ 1 ≤ m ∧ m ≤ 60
  · refine ⟨(iI (nevS (σ.1 z.toNat) m i)), σ, c_never hK cl cs cd cu hz hm hi (by omega) (by omega) (fun c => (c h).elim) (fun s S' N' b0 b1 b2 b3 b4 b5 => ⟨by subst b1; rfl, fun _ => ⟨_, c0.Q b5⟩⟩), m_never mF hz hm hi (fun c => (c h).elim) (fun s g b0 b1 b2 b3 b4 => ⟨by subst b1; rfl, m0.laid ⟨rfl, rfl, rfl, rfl, rfl, rfl, rfl, rfl, rfl, rfl, rfl, rfl, rfl, rfl, rfl, rfl⟩ rfl rfl (mL.rd rfl rfl)⟩)⟩
  · refine ⟨(iI (-1)), σ, c_never hK cl cs cd cu hz hm hi (by omega) (by omega) (fun _  => ⟨rfl, fun _ => ⟨_, c0⟩⟩) (fun s S' N' b0 b1 b2 b3 b4 b5 => (h (by subst b1; exact ⟨by first | omega | exact b2, by first | omega | exact b2, by first | omega | exact b2, by first | omega | exact b2, by first | omega | exact b2⟩)).elim), m_never mF hz hm hi (fun _  => ⟨rfl, m0⟩) (fun s g b0 b1 b2 b3 b4 => (h (by subst b1; exact ⟨by first | omega | exact b2, by first | omega | exact b2, by first | omega | exact b2, by first | omega | exact b2, by first | omega | exact b2⟩)).elim)⟩
theorem p_bars (hK : kOk K) (m0 : mRs σ S) (c0 : cRt K a σ ch S0 N) (hMC : 9000 ≤ MC) (hMS : 100000 ≤ MS) (x_z : Int32) : ∃ v σ', wX0_bars K (fun r N' => r = v ∧ cRs K a σ' ch N') MC MS N (a 0) x_z ∧ wX1_bars (fun r S' => r = v ∧ mRs σ' S') S x_z := by
  obtain ⟨z, rfl, hz⟩ := i32_ex x_z
  obtain ⟨mF, mT, mf, mL, mU, mi, mS⟩ := id m0
  obtain ⟨cl, cs, ct, cd, cu, cf, ci, cw⟩ := id c0
  by_cases h : 0 ≤ z ∧ z ≤ 3 ∧ σ.1 z.toNat ≠ []
  · refine ⟨(iI (barR (σ.1 z.toNat) 60 1)), σ, c_bars hK cl cs cd cu hz (by omega) (by omega) (fun c => (c h).elim) (fun s S' N' b0 b1 b2 b3 => ⟨by subst b1; rfl, fun _ => ⟨_, c0.Q b3⟩⟩), m_bars mF hz (fun c => (c h).elim) (fun s g b0 b1 b2 => ⟨by subst b1; rfl, m0.laid ⟨rfl, rfl, rfl, rfl, rfl, rfl, rfl, rfl, rfl, rfl, rfl, rfl, rfl, rfl, rfl, rfl⟩ rfl rfl (mL.rd rfl rfl)⟩)⟩
  · refine ⟨(iI (-1)), σ, c_bars hK cl cs cd cu hz (by omega) (by omega) (fun _ _ _ q => ⟨rfl, fun _ => ⟨_, c0.Q q⟩⟩) (fun s S' N' b0 b1 b2 b3 => (h (by subst b1; exact ⟨by first | omega | exact b2, by first | omega | exact b2, by first | omega | exact b2⟩)).elim), m_bars mF hz (fun _  => ⟨rfl, m0⟩) (fun s g b0 b1 b2 => (h (by subst b1; exact ⟨by first | omega | exact b2, by first | omega | exact b2, by first | omega | exact b2⟩)).elim)⟩
theorem p_many (hK : kOk K) (m0 : mRs σ S) (c0 : cRt K a σ ch S0 N) (hMC : 9000 ≤ MC) (hMS : 100000 ≤ MS) (x_z : Int32) (x_n : Int32) (x_k : Int32) (x_x4 : Int32) : ∃ v σ', wX0_many K (fun r N' => r = v ∧ cRs K a σ' ch N') MC MS N (a 0) x_z x_n x_k x_x4 ∧ wX1_many (fun r S' => r = v ∧ mRs σ' S') S x_z x_n x_k x_x4 := by
  obtain ⟨z, rfl, hz⟩ := i32_ex x_z
  obtain ⟨n, rfl, hn⟩ := i32_ex x_n
  obtain ⟨k, rfl, hk⟩ := i32_ex x_k
  obtain ⟨ex, hx⟩ : ∃ ex : Bool, (x_x4 = 0 ∧ ex = false) ∨ (x_x4 ≠ 0 ∧ ex = true) := by
    by_cases e : x_x4 = 0
    · exact ⟨false, Or.inl ⟨e, rfl⟩⟩
    · exact ⟨true, Or.inr ⟨e, rfl⟩⟩
  obtain ⟨mF, mT, mf, mL, mU, mi, mS⟩ := id m0
  obtain ⟨cl, cs, ct, cd, cu, cf, ci, cw⟩ := id c0
  by_cases h : 0 ≤ z ∧ z ≤ 3 ∧ σ.1 z.toNat ≠ [] ∧ -3000 ≤ n ∧ n ≤ 3000 ∧ 1 ≤ k ∧ k ≤ 1000000
  · refine ⟨(iI (manR (unS (σ.1 z.toNat)) k ex (3001 - n).toNat n)), σ, c_many hK cl cs cu hz hn hk hx (by omega) (by omega) (fun c => (c h).elim) (fun s S' N' b0 b1 b2 b3 b4 b5 b6 b7 => ⟨by subst b1; rfl, fun _ => ⟨_, c0.Q (b7.Q cl cd)⟩⟩), m_many mF mL mU hz hn hk hx (fun c => (c h).elim) (fun s S' b0 b1 b2 b3 b4 b5 b6 b7 b8 b9 => ⟨by subst b1; rfl, m0.ul b7 b8 b9⟩)⟩
  · refine ⟨(iI (-100000)), σ, c_many hK cl cs cu hz hn hk hx (by omega) (by omega) (fun _  => ⟨rfl, fun _ => ⟨_, c0⟩⟩) (fun s S' N' b0 b1 b2 b3 b4 b5 b6 b7 => (h (by subst b1; exact ⟨by first | omega | exact b2, by first | omega | exact b2, by first | omega | exact b2, by first | omega | exact b2, by first | omega | exact b2, by first | omega | exact b2, by first | omega | exact b2⟩)).elim), m_many mF mL mU hz hn hk hx (fun _  => ⟨rfl, m0⟩) (fun s S' b0 b1 b2 b3 b4 b5 b6 b7 b8 b9 => (h (by subst b1; exact ⟨by first | omega | exact b2, by first | omega | exact b2, by first | omega | exact b2, by first | omega | exact b2, by first | omega | exact b2, by first | omega | exact b2, by first | omega | exact b2⟩)).elim)⟩
theorem p_greed (hK : kOk K) (m0 : mRs σ S) (c0 : cRt K a σ ch S0 N) (hMC : 9000 ≤ MC) (hMS : 100000 ≤ MS) (x_z : Int32) (x_n : Int32) (x_i : Int32) : ∃ v σ', wX0_greed K (fun r N' => r = v ∧ cRs K a σ' ch N') MC MS N (a 0) x_z x_n x_i ∧ wX1_greed (fun r S' => r = v ∧ mRs σ' S') S x_z x_n x_i := by
  obtain ⟨z, rfl, hz⟩ := i32_ex x_z
  obtain ⟨n, rfl, hn⟩ := i32_ex x_n
  obtain ⟨i, rfl, hi⟩ := i32_ex x_i
  obtain ⟨mF, mT, mf, mL, mU, mi, mS⟩ := id m0
  obtain ⟨cl, cs, ct, cd, cu, cf, ci, cw⟩ := id c0
  by_cases h : 0 ≤ z ∧ z ≤ 3 ∧ σ.1 z.toNat ≠ [] ∧ -3000 ≤ n ∧ n ≤ 3000 ∧ -1 ≤ i ∧ i < (σ.1 z.toNat).length
  · refine ⟨(iI (greedR (σ.1 z.toNat) n i 0)), σ, c_greed2 cl cs hz hn hi (by omega) (by omega) (fun c => (c h).elim) (fun s b0 b1 b2 b3 b4 b5 b6 => ⟨by subst b1; rfl, fun _ => ⟨_, c0⟩⟩), m_greed2 mF hz hn hi (fun c => (c h).elim) (fun s b0 b1 b2 b3 b4 b5 b6 => ⟨by subst b1; rfl, m0⟩)⟩
  · refine ⟨(iI (-100000)), σ, c_greed2 cl cs hz hn hi (by omega) (by omega) (fun _  => ⟨rfl, fun _ => ⟨_, c0⟩⟩) (fun s b0 b1 b2 b3 b4 b5 b6 => (h (by subst b1; exact ⟨by first | omega | exact b2 | exact Int.ofNat_lt.mpr b6 | exact b6, by first | omega | exact b2 | exact Int.ofNat_lt.mpr b6 | exact b6, by first | omega | exact b2 | exact Int.ofNat_lt.mpr b6 | exact b6, by first | omega | exact b2 | exact Int.ofNat_lt.mpr b6 | exact b6, by first | omega | exact b2 | exact Int.ofNat_lt.mpr b6 | exact b6, by first | omega | exact b2 | exact Int.ofNat_lt.mpr b6 | exact b6, by first | omega | exact b2 | exact Int.ofNat_lt.mpr b6 | exact b6⟩)).elim), m_greed2 mF hz hn hi (fun _  => ⟨rfl, m0⟩) (fun s b0 b1 b2 b3 b4 b5 b6 => (h (by subst b1; exact ⟨by first | omega | exact b2 | exact Int.ofNat_lt.mpr b6 | exact b6, by first | omega | exact b2 | exact Int.ofNat_lt.mpr b6 | exact b6, by first | omega | exact b2 | exact Int.ofNat_lt.mpr b6 | exact b6, by first | omega | exact b2 | exact Int.ofNat_lt.mpr b6 | exact b6, by first | omega | exact b2 | exact Int.ofNat_lt.mpr b6 | exact b6, by first | omega | exact b2 | exact Int.ofNat_lt.mpr b6 | exact b6, by first | omega | exact b2 | exact Int.ofNat_lt.mpr b6 | exact b6⟩)).elim)⟩
theorem p_nearest (hK : kOk K) (m0 : mRs σ S) (c0 : cRt K a σ ch S0 N) (hMC : 9000 ≤ MC) (hMS : 100000 ≤ MS) (x_z : Int32) (x_n : Int32) : ∃ v σ', wX0_nearest K (fun r N' => r = v ∧ cRs K a σ' ch N') MC MS N (a 0) x_z x_n ∧ wX1_nearest (fun r S' => r = v ∧ mRs σ' S') S x_z x_n := by
  obtain ⟨z, rfl, hz⟩ := i32_ex x_z
  obtain ⟨n, rfl, hn⟩ := i32_ex x_n
  obtain ⟨mF, mT, mf, mL, mU, mi, mS⟩ := id m0
  obtain ⟨cl, cs, ct, cd, cu, cf, ci, cw⟩ := id c0
  by_cases h : 0 ≤ z ∧ z ≤ 3 ∧ σ.1 z.toNat ≠ [] ∧ -3000 ≤ n ∧ n ≤ 3000
  · refine ⟨(iI (nearS (Wy (σ.1 z.toNat)) n)), σ, c_nearest hK cl cs cd cu hz hn (by omega) (by omega) (fun c => (c h).elim) (fun s S' N' b0 b1 b2 b3 b4 b5 => ⟨by subst b1; rfl, fun _ => ⟨_, c0.Q b5⟩⟩), m_nearest mF mL hz hn (fun c => (c h).elim) (fun s g b0 b1 b2 b3 b4 b5 => ⟨by subst b1; rfl, m0.laid ⟨rfl, rfl, rfl, rfl, rfl, rfl, rfl, rfl, rfl, rfl, rfl, rfl, rfl, rfl, rfl, rfl⟩ rfl rfl (Or.inr ⟨s, b0, rfl, b2, b5⟩)⟩)⟩
  · refine ⟨(iI (-100000)), σ, c_nearest hK cl cs cd cu hz hn (by omega) (by omega) (fun _  => ⟨rfl, fun _ => ⟨_, c0⟩⟩) (fun s S' N' b0 b1 b2 b3 b4 b5 => (h (by subst b1; exact ⟨by first | omega | exact b2, by first | omega | exact b2, by first | omega | exact b2, by first | omega | exact b2, by first | omega | exact b2⟩)).elim), m_nearest mF mL hz hn (fun _  => ⟨rfl, m0⟩) (fun s g b0 b1 b2 b3 b4 b5 => (h (by subst b1; exact ⟨by first | omega | exact b2, by first | omega | exact b2, by first | omega | exact b2, by first | omega | exact b2, by first | omega | exact b2⟩)).elim)⟩
theorem p_enough (hK : kOk K) (m0 : mRs σ S) (c0 : cRt K a σ ch S0 N) (hMC : 9000 ≤ MC) (hMS : 100000 ≤ MS) (x_z : Int32) (x_n : Int32) : ∃ v σ', wX0_enough K (fun r N' => r = v ∧ cRs K a σ' ch N') MC MS N (a 0) x_z x_n ∧ wX1_enough (fun r S' => r = v ∧ mRs σ' S') S x_z x_n := by
  obtain ⟨z, rfl, hz⟩ := i32_ex x_z
  obtain ⟨n, rfl, hn⟩ := i32_ex x_n
  obtain ⟨mF, mT, mf, mL, mU, mi, mS⟩ := id m0
  obtain ⟨cl, cs, ct, cd, cu, cf, ci, cw⟩ := id c0
  by_cases h : 0 ≤ z ∧ z ≤ 3 ∧ σ.1 z.toNat ≠ [] ∧ -3000 ≤ n ∧ n ≤ 3000
  · refine ⟨(iI (enoR (σ.1 z.toNat) w0R n 0)), σ, c_enough cl cs hz hn (by omega) (by omega) (fun c => (c h).elim) (fun s S' N' b0 b1 b2 b3 b4 b5 b6 b7 b8 => ⟨by subst b1; rfl, fun _ => ⟨_, c0.Q (cQ.en cl cd b5 b6 b7 b8)⟩⟩), m_enough mF hz hn (fun c => (c h).elim) (fun s g b0 b1 b2 b3 b4 => ⟨by subst b1; rfl, m0.laid ⟨rfl, rfl, rfl, rfl, rfl, rfl, rfl, rfl, rfl, rfl, rfl, rfl, rfl, rfl, rfl, rfl⟩ rfl rfl (Or.inl rfl)⟩)⟩
  · refine ⟨(iI (-1)), σ, c_enough cl cs hz hn (by omega) (by omega) (fun _  => ⟨rfl, fun _ => ⟨_, c0⟩⟩) (fun s S' N' b0 b1 b2 b3 b4 b5 b6 b7 b8 => (h (by subst b1; exact ⟨by first | omega | exact b2, by first | omega | exact b2, by first | omega | exact b2, by first | omega | exact b2, by first | omega | exact b2⟩)).elim), m_enough mF hz hn (fun _  => ⟨rfl, m0⟩) (fun s g b0 b1 b2 b3 b4 => (h (by subst b1; exact ⟨by first | omega | exact b2, by first | omega | exact b2, by first | omega | exact b2, by first | omega | exact b2, by first | omega | exact b2⟩)).elim)⟩
theorem p_common (hK : kOk K) (m0 : mRs σ S) (c0 : cRt K a σ ch S0 N) (hMC : 9000 ≤ MC) (hMS : 100000 ≤ MS) (x_z : Int32) (x_z2 : Int32) (x_x : Int32) (x_y : Int32) (x_i : Int32) : ∃ v σ', wX0_common K (fun r N' => r = v ∧ cRs K a σ' ch N') MC MS N (a 0) x_z x_z2 x_x x_y x_i ∧ wX1_common (fun r S' => r = v ∧ mRs σ' S') S x_z x_z2 x_x x_y x_i := by
  obtain ⟨z, rfl, hz⟩ := i32_ex x_z
  obtain ⟨z2, rfl, hz2⟩ := i32_ex x_z2
  obtain ⟨x, rfl, hx⟩ := i32_ex x_x
  obtain ⟨y, rfl, hy⟩ := i32_ex x_y
  obtain ⟨i, rfl, hi⟩ := i32_ex x_i
  obtain ⟨mF, mT, mf, mL, mU, mi, mS⟩ := id m0
  obtain ⟨cl, cs, ct, cd, cu, cf, ci, cw⟩ := id c0
  by_cases h : 0 ≤ z ∧ z ≤ 3 ∧ σ.1 z.toNat ≠ [] ∧ 0 ≤ z2 ∧ z2 ≤ 3 ∧ σ.1 z2.toNat ≠ [] ∧ -3000 ≤ x ∧ x ≤ y ∧ y ≤ 3000
  · refine ⟨(iI (missR (both0 (Wy (σ.1 z.toNat)) (Wy (σ.1 z2.toNat))) i (y - x + 1).toNat 0 x)), σ, c_common hK cl cs cd hz hz2 hx hy hi (by omega) (by omega) (fun c => (c h).elim) (fun s s2 S' N' b0 b1 b2 b3 b4 b5 b6 b7 b8 b9 => ⟨by subst b1 b4; rfl, fun _ => ⟨_, c0.Q (b9.Q cl cu)⟩⟩), m_common mF mL hz hz2 hx hy hi (fun c => (c h).elim) (fun s s2 g g2 f b0 b1 b2 b3 b4 b5 b6 b7 b8 b9 => ⟨by subst b1 b4; rfl, m0.laid ⟨rfl, rfl, rfl, rfl, rfl, rfl, rfl, rfl, rfl, rfl, rfl, rfl, rfl, rfl, rfl, rfl⟩ rfl rfl (Or.inr ⟨s2, b3, rfl, b5, b9⟩)⟩)⟩
  · refine ⟨(iI (-100000)), σ, c_common hK cl cs cd hz hz2 hx hy hi (by omega) (by omega) (fun _  => ⟨rfl, fun _ => ⟨_, c0⟩⟩) (fun s s2 S' N' b0 b1 b2 b3 b4 b5 b6 b7 b8 b9 => (h (by subst b1 b4; exact ⟨by first | omega | exact b2 | exact b5, by first | omega | exact b2 | exact b5, by first | omega | exact b2 | exact b5, by first | omega | exact b2 | exact b5, by first | omega | exact b2 | exact b5, by first | omega | exact b2 | exact b5, by first | omega | exact b2 | exact b5, by first | omega | exact b2 | exact b5, by first | omega | exact b2 | exact b5⟩)).elim), m_common mF mL hz hz2 hx hy hi (fun _  => ⟨rfl, m0⟩) (fun s s2 g g2 f b0 b1 b2 b3 b4 b5 b6 b7 b8 b9 => (h (by subst b1 b4; exact ⟨by first | omega | exact b2 | exact b5, by first | omega | exact b2 | exact b5, by first | omega | exact b2 | exact b5, by first | omega | exact b2 | exact b5, by first | omega | exact b2 | exact b5, by first | omega | exact b2 | exact b5, by first | omega | exact b2 | exact b5, by first | omega | exact b2 | exact b5, by first | omega | exact b2 | exact b5⟩)).elim)⟩
theorem p_gap (hK : kOk K) (m0 : mRs σ S) (c0 : cRt K a σ ch S0 N) (hMC : 9000 ≤ MC) (hMS : 100000 ≤ MS) (x_z : Int32) (x_x : Int32) (x_y : Int32) (x_w : Int32) : ∃ v σ', wX0_gap K (fun r N' => r = v ∧ cRs K a σ' ch N') MC MS N (a 0) x_z x_x x_y x_w ∧ wX1_gap (fun r S' => r = v ∧ mRs σ' S') S x_z x_x x_y x_w := by
  obtain ⟨z, rfl, hz⟩ := i32_ex x_z
  obtain ⟨x, rfl, hx⟩ := i32_ex x_x
  obtain ⟨y, rfl, hy⟩ := i32_ex x_y
  obtain ⟨w, rfl, hw⟩ := i32_ex x_w
  obtain ⟨mF, mT, mf, mL, mU, mi, mS⟩ := id m0
  obtain ⟨cl, cs, ct, cd, cu, cf, ci, cw⟩ := id c0
  by_cases h : 0 ≤ z ∧ z ≤ 3 ∧ σ.1 z.toNat ≠ [] ∧ -3000 ≤ x ∧ x ≤ y ∧ y ≤ 3000 ∧ 0 ≤ w ∧ w ≤ 1
  · refine ⟨(iI (gapS (Wy (σ.1 z.toNat)) x y w)), σ, c_gap hK cl cs cd hz hx hy hw (by omega) (by omega) (fun c => (c h).elim) (fun s S' N' b0 b1 b2 b3 b4 b5 b6 b7 b8 => ⟨by subst b1; rfl, fun _ => ⟨_, c0.Q (b8.Q cl cu)⟩⟩), m_gap mF mL hz hx hy hw (fun c => (c h).elim) (fun s g b0 b1 b2 b3 b4 b5 b6 b7 b8 => ⟨by subst b1; rfl, m0.laid ⟨rfl, rfl, rfl, rfl, rfl, rfl, rfl, rfl, rfl, rfl, rfl, rfl, rfl, rfl, rfl, rfl⟩ rfl rfl (Or.inr ⟨s, b0, rfl, b2, b8⟩)⟩)⟩
  · refine ⟨(iI (-100000)), σ, c_gap hK cl cs cd hz hx hy hw (by omega) (by omega) (fun _  => ⟨rfl, fun _ => ⟨_, c0⟩⟩) (fun s S' N' b0 b1 b2 b3 b4 b5 b6 b7 b8 => (h (by subst b1; exact ⟨by first | omega | exact b2, by first | omega | exact b2, by first | omega | exact b2, by first | omega | exact b2, by first | omega | exact b2, by first | omega | exact b2, by first | omega | exact b2, by first | omega | exact b2⟩)).elim), m_gap mF mL hz hx hy hw (fun _  => ⟨rfl, m0⟩) (fun s g b0 b1 b2 b3 b4 b5 b6 b7 b8 => (h (by subst b1; exact ⟨by first | omega | exact b2, by first | omega | exact b2, by first | omega | exact b2, by first | omega | exact b2, by first | omega | exact b2, by first | omega | exact b2, by first | omega | exact b2, by first | omega | exact b2⟩)).elim)⟩
theorem p_rank (hK : kOk K) (m0 : mRs σ S) (c0 : cRt K a σ ch S0 N) (hMC : 9000 ≤ MC) (hMS : 100000 ≤ MS) (x_z : Int32) (x_x : Int32) (x_y : Int32) (x_i : Int32) : ∃ v σ', wX0_rank K (fun r N' => r = v ∧ cRs K a σ' ch N') MC MS N (a 0) x_z x_x x_y x_i ∧ wX1_rank (fun r S' => r = v ∧ mRs σ' S') S x_z x_x x_y x_i := by
  obtain ⟨z, rfl, hz⟩ := i32_ex x_z
  obtain ⟨x, rfl, hx⟩ := i32_ex x_x
  obtain ⟨y, rfl, hy⟩ := i32_ex x_y
  obtain ⟨i, rfl, hi⟩ := i32_ex x_i
  obtain ⟨mF, mT, mf, mL, mU, mi, mS⟩ := id m0
  obtain ⟨cl, cs, ct, cd, cu, cf, ci, cw⟩ := id c0
  by_cases h : 0 ≤ z ∧ z ≤ 3 ∧ σ.1 z.toNat ≠ [] ∧ -3000 ≤ x ∧ x ≤ y ∧ y ≤ 3000 ∧ y - x < 200 ∧ 0 ≤ i ∧ i ≤ y - x
  · refine ⟨(iI (rankS (Wy (σ.1 z.toNat)) x y i)), σ, c_rank hK cl cs cd cu hz hx hy hi (by omega) (by omega) (fun c => (c h).elim) (fun s S' N' b0 b1 b2 b3 b4 b5 b6 b7 b8 b9 => ⟨by subst b1; rfl, fun _ => ⟨_, c0.Q b9⟩⟩), m_rank mF mL hz hx hy hi (fun c => (c h).elim) (fun s g b0 b1 b2 b3 b4 b5 b6 b7 b8 b9 => ⟨by subst b1; rfl, m0.laid ⟨rfl, rfl, rfl, rfl, rfl, rfl, rfl, rfl, rfl, rfl, rfl, rfl, rfl, rfl, rfl, rfl⟩ rfl rfl (Or.inr ⟨s, b0, rfl, b2, b9⟩)⟩)⟩
  · refine ⟨(iI (-100000)), σ, c_rank hK cl cs cd cu hz hx hy hi (by omega) (by omega) (fun _  => ⟨rfl, fun _ => ⟨_, c0⟩⟩) (fun s S' N' b0 b1 b2 b3 b4 b5 b6 b7 b8 b9 => (h (by subst b1; exact ⟨by first | omega | exact b2, by first | omega | exact b2, by first | omega | exact b2, by first | omega | exact b2, by first | omega | exact b2, by first | omega | exact b2, by first | omega | exact b2, by first | omega | exact b2, by first | omega | exact b2⟩)).elim), m_rank mF mL hz hx hy hi (fun _  => ⟨rfl, m0⟩) (fun s g b0 b1 b2 b3 b4 b5 b6 b7 b8 b9 => (h (by subst b1; exact ⟨by first | omega | exact b2, by first | omega | exact b2, by first | omega | exact b2, by first | omega | exact b2, by first | omega | exact b2, by first | omega | exact b2, by first | omega | exact b2, by first | omega | exact b2, by first | omega | exact b2⟩)).elim)⟩
theorem p_number (hK : kOk K) (m0 : mRs σ S) (c0 : cRt K a σ ch S0 N) (hMC : 9000 ≤ MC) (hMS : 100000 ≤ MS) (x_z : Int32) (x_n : Int32) (y0 : Int32) (y1 : Int32) (y2 : Int32) (y3 : Int32) (y4 : Int32) : ∃ v σ', wX0_number K (fun r N' => r = v ∧ cRs K a σ' ch N') MC MS N (a 0) x_z x_n y0 y1 y2 y3 y4 ∧ wX1_number (fun r S' => r = v ∧ mRs σ' S') S x_z x_n y0 y1 y2 y3 y4 := by
  obtain ⟨z, rfl, hz⟩ := i32_ex x_z
  obtain ⟨n, rfl, hn⟩ := i32_ex x_n
  obtain ⟨y, hy, e0, e1, e2, e3, e4⟩ := five_ex y0 y1 y2 y3 y4
  subst e0 e1 e2 e3 e4
  obtain ⟨mF, mT, mf, mL, mU, mi, mS⟩ := id m0
  obtain ⟨cl, cs, ct, cd, cu, cf, ci, cw⟩ := id c0
  by_cases h : 0 ≤ z ∧ z ≤ 3 ∧ σ.1 z.toNat ≠ [] ∧ -3000 ≤ n ∧ n ≤ 3000
  · refine ⟨(lI (nmbR y (σ.1 z.toNat) 0 n 0)), σ, c_number hK cl cs cd hz hn hy (by omega) (by omega) (fun c => (c h).elim) (fun s S' N' b0 b1 b2 b3 b4 b5 => ⟨by subst b1; rfl, fun _ => ⟨_, c0.Q (b5.Q cl cu)⟩⟩), m_number mF mL hz hn hy (fun c => (c h).elim) (fun s g f b0 b1 b2 b3 b4 b5 => ⟨by subst b1; rfl, m0.laid ⟨rfl, rfl, rfl, rfl, rfl, rfl, rfl, rfl, rfl, rfl, rfl, rfl, rfl, rfl, rfl, rfl⟩ rfl rfl (Or.inr ⟨s, b0, rfl, b2, b5⟩)⟩)⟩
  · refine ⟨(lI (-1)), σ, c_number hK cl cs cd hz hn hy (by omega) (by omega) (fun _  => ⟨rfl, fun _ => ⟨_, c0⟩⟩) (fun s S' N' b0 b1 b2 b3 b4 b5 => (h (by subst b1; exact ⟨by first | omega | exact b2, by first | omega | exact b2, by first | omega | exact b2, by first | omega | exact b2, by first | omega | exact b2⟩)).elim), m_number mF mL hz hn hy (fun _  => ⟨rfl, m0⟩) (fun s g f b0 b1 b2 b3 b4 b5 => (h (by subst b1; exact ⟨by first | omega | exact b2, by first | omega | exact b2, by first | omega | exact b2, by first | omega | exact b2, by first | omega | exact b2⟩)).elim)⟩
end
