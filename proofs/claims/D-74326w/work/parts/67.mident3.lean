set_option maxRecDepth 100000
set_option maxHeartbeats 4000000
/-! the model reads powers, products, sums -/
theorem m_power {rc : (Int32 → MS → Prop) → MS → Prop} {rcS : Nat → xst → xR} {post : Int32 → MS → Prop} {S0 S : MS} {T : Nat → Int} {n : Nat} {o : Int} {j : Nat} {s : xst} (hT : mTp S0 T n) (hs : xOk n s) (hr : idEq S0 S) (hk : mTok S T n s.1) (hg : going S o j) (hx : mXs S s) (hj : j ≤ 6) (hrc : j < 6 → rcOk rc rcS S0 T n o j) (hgr : rcGr n rcS) (hO : owesX post S0 T n o j (pwR T n rcS j s)) : wX1_readPower rc post S := by
  unfold wX1_readPower
  unfold pwR at hO
  refine m_part hT hs hr hk hg hx hj hrc hgr ⟨?_, ?_⟩
  · intro k q i S' eR b r
    rw [eR] at hO
    exact b_t rfl (hO.1 k q i S' rfl b r)
  · intro s1 S1 eR k1 g1 r1 x1
    rw [eR] at hO
    have gr := ptR_gr hgr hs eR
    have ok1 := gr.1
    have hlen := ok1.2.2.1
    have hpt := ok1.2.1
    unfold pwC at hO
    simp only [] at hO
    refine b_f (by decide) (m_isSign (c := 94) k1 (r1.tape hT) (by omega) (fun e => b_f (by decide) ?_) (fun e => b_t rfl ?_))
    · rw [if_neg (fun q => q e)] at hO
      have q1 := (nxT_le (T := T) ok1.1).2
      refine m_nextT (r1.tape hT) ok1.1 k1 (fun S2 t2 k2 => ?_)
      have r2 := r1.trans t2.rd.id
      have g2 := t2.going g1
      have x2 := x1.rd t2.rd
      refine m_isNumber k2 hT.1 q1 (fun e2 => b_f (by decide) ?_) (fun e2 => b_t rfl (m_x_fail hO r2 g2 k2 1 (by rw [if_pos e2])))
      rw [if_neg (fun q => q e2)] at hO
      have hv := numV_in (T := T) (n := n) (p := nxT T n s1.1)
      rw [k2.2.2.2.2.1, show (6 : Int32) = iI 6 from rfl, iI_le (by omega) (by omega) (by omega) (by omega)]
      refine ⟨fun c => ?_, fun c => m_x_fail hO r2 g2 k2 10 (by rw [if_pos (by omega)])⟩
      rw [if_neg (by omega)] at hO
      refine m_puts (a := 94) x2 (by omega) (fun S3 r3 x3 e3 e4 => ?_)
      refine m_nextT ((r2.trans r3).tape hT) q1 (tok36 e3 e4 k2) (fun S4 t4 k4 => ?_)
      exact hO.2 _ S4 rfl k4 (t4.going (keep36 e3 g2)) ((r2.trans r3).trans t4.rd.id) ((x3.rd t4.rd).at _)
    · rw [if_pos e] at hO
      exact hO.2 _ S1 rfl k1 g1 r1 x1
theorem m_product_9 {rc : (Int32 → MS → Prop) → MS → Prop} {rcS : Nat → xst → xR} {post : Int32 → MS → Prop} {S0 : MS} {T : Nat → Int} {n : Nat} {o : Int} {j : Nat} (hT : mTp S0 T n) (hj : j ≤ 6) (hrc : j < 6 → rcOk rc rcS S0 T n o j) (hgr : rcGr n rcS) : ∀ (m : Nat) (s : xst) (S : MS), 61 ≤ s.2.2.1 + m → xOk n s → idEq S0 S → mTok S T n s.1 → going S o j → mXs S s → owesX post S0 T n o j (pdL T n rcS j m s) → wX1_readProduct_9 rc post (m + 1) S
  | 0, s, S, hm, hs, _, _, _, _, _ => by have := hs.2.1; omega
  | m + 1, s, S, hm, hs, hr, hk, hg, hx, hO => by
    unfold wX1_readProduct_9
    unfold pdL at hO
    refine m_isSign (c := 42) hk (hr.tape hT) (by omega) (fun e => b_f (by decide) ?_) (fun e => b_t rfl ?_)
    · rw [if_neg (fun q => q e)] at hO
      have q1 := (nxT_le (T := T) hs.1).2
      refine m_nextT (hr.tape hT) hs.1 hk (fun S1 t1 k1 => ?_)
      refine m_power (s := (nxT T n s.1, s.2)) hT (hs.at q1) (hr.trans t1.rd.id) k1 (t1.going hg) ((hx.rd t1.rd).at _) hj hrc hgr ⟨?_, ?_⟩
      · intro k q i S' eR b r
        rw [eR] at hO
        exact b_t rfl (hO.1 k q i S' rfl b r)
      · intro s1 S2 eR k2 g2 r2 x2
        rw [eR] at hO
        have gr := pwR_gr hgr (hs.at q1) eR
        have hlen := gr.1.2.2.1
        have hpt := gr.1.2.1
        have pge := xPut_ge (c := 42) hs rfl (by omega) gr
        have h2 := gr.2.1
        simp only [] at h2
        refine b_f (by decide) (m_puts (a := 42) (b := 0) x2 (by omega) (fun S3 r3 x3 e3 e4 => ?_))
        exact m_product_9 hT hj hrc hgr m (xPut 42 s1) S3 (by show 61 ≤ s1.2.2.1 + m; omega) pge.1 (r2.trans r3) (tok36 e3 e4 k2) (keep36 e3 g2) x3 hO
    · rw [if_pos e] at hO
      exact hO.2 _ S rfl hk hg hr hx
theorem m_product {rc : (Int32 → MS → Prop) → MS → Prop} {rcS : Nat → xst → xR} {post : Int32 → MS → Prop} {S0 S : MS} {T : Nat → Int} {n : Nat} {o : Int} {j : Nat} {s : xst} (hT : mTp S0 T n) (hs : xOk n s) (hr : idEq S0 S) (hk : mTok S T n s.1) (hg : going S o j) (hx : mXs S s) (hj : j ≤ 6) (hrc : j < 6 → rcOk rc rcS S0 T n o j) (hgr : rcGr n rcS) (hO : owesX post S0 T n o j (pdR T n rcS j s)) : wX1_readProduct rc post S := by
  unfold wX1_readProduct
  unfold pdR at hO
  refine m_power hT hs hr hk hg hx hj hrc hgr ⟨?_, ?_⟩
  · intro k q i S' eR b r
    rw [eR] at hO
    exact b_t rfl (hO.1 k q i S' rfl b r)
  · intro s1 S1 eR k1 g1 r1 x1
    rw [eR] at hO
    have gr := pwR_gr hgr hs eR
    exact b_f (by decide) ⟨62, m_product_9 hT hj hrc hgr 61 s1 S1 (by omega) gr.1 r1 k1 g1 x1 hO⟩
theorem m_sum_27 {rc : (Int32 → MS → Prop) → MS → Prop} {rcS : Nat → xst → xR} {K : MS → Prop} {post : Int32 → MS → Prop} {S0 S : MS} {T : Nat → Int} {n : Nat} {o : Int} {j : Nat} {s : xst} {f : xst → xR} (hT : mTp S0 T n) (hj : j ≤ 6) (hrc : j < 6 → rcOk rc rcS S0 T n o j) (hgr : rcGr n rcS) (hs : xOk n s) (hr : idEq S0 S) (hk : mTok S T n s.1) (hg : going S o j) (hx : mXs S s) (hc : sgnV T n s.1 = 42 ∨ sgnV T n s.1 = 43 ∨ sgnV T n s.1 = 45) (hO : owesX post S0 T n o j (xBind (pdR T n rcS j (nxT T n s.1, s.2)) (fun s' => f (xPut (sgnV T n s.1) s')))) (hK : ∀ (s' : xst) (S' : MS), s.2.2.1 < s'.2.2.1 → xOk n s' → idEq S0 S' → mTok S' T n s'.1 → going S' o j → mXs S' s' → owesX post S0 T n o j (f s') → K S') : wX1_readSum_27 rc K post S := by
  unfold wX1_readSum_27
  rw [hk.2.2.2.2.2]
  have q1 := (nxT_le (T := T) hs.1).2
  refine m_nextT (hr.tape hT) hs.1 hk (fun S1 t1 k1 => ?_)
  refine m_product (s := (nxT T n s.1, s.2)) hT (hs.at q1) (hr.trans t1.rd.id) k1 (t1.going hg) ((hx.rd t1.rd).at _) hj hrc hgr ⟨?_, ?_⟩
  · intro k q i S' eR b r
    rw [eR] at hO
    exact b_t rfl (hO.1 k q i S' rfl b r)
  · intro s1 S2 eR k2 g2 r2 x2
    rw [eR] at hO
    have gr := pdR_gr hgr (hs.at q1) eR
    have hlen := gr.1.2.2.1
    have hpt := gr.1.2.1
    have pge := xPut_ge (c := sgnV T n s.1) hs rfl hc gr
    have h2 := gr.2.1
    simp only [] at h2
    refine b_f (by decide) (m_puts (b := 0) x2 (by omega) (fun S3 r3 x3 e3 e4 => ?_))
    exact hK (xPut (sgnV T n s.1) s1) S3 h2 pge.1 (r2.trans r3) (tok36 e3 e4 k2) (keep36 e3 g2) x3 hO
theorem m_sum_9 {rc : (Int32 → MS → Prop) → MS → Prop} {rcS : Nat → xst → xR} {post : Int32 → MS → Prop} {S0 : MS} {T : Nat → Int} {n : Nat} {o : Int} {j : Nat} (hT : mTp S0 T n) (hj : j ≤ 6) (hrc : j < 6 → rcOk rc rcS S0 T n o j) (hgr : rcGr n rcS) : ∀ (m : Nat) (s : xst) (S : MS), 61 ≤ s.2.2.1 + m → xOk n s → idEq S0 S → mTok S T n s.1 → going S o j → mXs S s → owesX post S0 T n o j (smL T n rcS j m s) → wX1_readSum_9 rc post (m + 1) S
  | 0, s, S, hm, hs, _, _, _, _, _ => by have := hs.2.1; omega
  | m + 1, s, S, hm, hs, hr, hk, hg, hx, hO => by
    unfold wX1_readSum_9
    unfold smL at hO
    have go : (sgIs T n s.1 43 ∨ sgIs T n s.1 45) → wX1_readSum_27 rc (fun S => wX1_readSum_9 rc post (m + 1) S) post S := fun c => by
      rw [if_neg (fun q => q c)] at hO
      have hc : sgnV T n s.1 = 42 ∨ sgnV T n s.1 = 43 ∨ sgnV T n s.1 = 45 := by
        unfold sgnV
        rcases c with c | c
        · rw [if_pos c.1]; have := c.2; omega
        · rw [if_pos c.1]; have := c.2; omega
      exact m_sum_27 hT hj hrc hgr hs hr hk hg hx hc hO (fun s' S' a b c d e f g => m_sum_9 hT hj hrc hgr m s' S' (by omega) b c d e f g)
    refine m_isSign (c := 43) hk (hr.tape hT) (by omega) (fun e => b_f (by decide) (go (Or.inl e))) (fun e => b_t rfl ?_)
    refine m_isSign (c := 45) hk (hr.tape hT) (by omega) (fun e2 => b_f (by decide) (go (Or.inr e2))) (fun e2 => b_t rfl ?_)
    rw [if_pos (fun q => q.elim e e2)] at hO
    exact hO.2 _ S rfl hk hg hr hx
theorem m_sum {T : Nat → Int} {n : Nat} {S0 : MS} {o : Int} (hT : mTp S0 T n) : ∀ (d j : Nat) (post : Int32 → MS → Prop) (s : xst) (S : MS), 7 ≤ d + j → j ≤ 6 → xOk n s → idEq S0 S → mTok S T n s.1 → going S o j → mXs S s → owesX post S0 T n o j (sxR T n d j s) → wX1_readSum d post S
  | 0, j, post, s, S, h1, h2, _, _, _, _, _, _ => by omega
  | d + 1, j, post, s, S, h1, h2, hs, hr, hk, hg, hx, hO => by
    unfold wX1_readSum wX1_readSumB
    unfold sxR smB at hO
    have hgr := sxR_gr (T := T) (n := n) d
    have hrc : j < 6 → rcOk (fun post S => wX1_readSum d post S) (sxR T n d) S0 T n o j := fun hj post s S a b c e f g => m_sum hT d (j + 1) post s S (by omega) (by omega) a b c e f g
    refine m_product hT hs hr hk hg hx h2 hrc hgr ⟨?_, ?_⟩
    · intro k q i S' eR b r
      rw [eR] at hO
      exact b_t rfl (hO.1 k q i S' rfl b r)
    · intro s1 S1 eR k1 g1 r1 x1
      rw [eR] at hO
      have gr := pdR_gr hgr hs eR
      exact b_f (by decide) ⟨62, m_sum_9 hT h2 hrc hgr 61 s1 S1 (by omega) gr.1 r1 k1 g1 x1 hO⟩
