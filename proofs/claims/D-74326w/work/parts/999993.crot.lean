set_option maxRecDepth 100000
set_option maxHeartbeats 4000000
section
variable {K : Nat → Nat → Nat}
theorem t_rotLeft {post : Unit → NM → Prop} {N : NM} {m cmp a b ko ko' : Nat} {vo vo' q o i u : Option Nat} {c c' : Bool} {CC : List Nat} {P : NM → Option Nat → Prop} {L1 L2 L3 : List (Nat × Int)}
    (hP : hoP N m cmp a q CC P) (ha : N a = some (nOd ko vo o (some b) q c)) (hb : N b = some (nOd ko' vo' i u (some a) c'))
    (h1 : tT K N o (some a) L1) (h2 : tT K N i (some b) L2) (h3 : tT K N u (some b) L3)
    (hc : ∀ z, on1 m z + on1 a z + on1 b z + CC.count z + (ad L1).count z + (ad L2).count z + (ad L3).count z ≤ 1)
    (h : ∀ N' : NM, P N' (some b) → N' b = some (nOd ko' vo' (some a) u q c') → N' a = some (nOd ko vo o i (some b) c) → tT K N' o (some a) L1 → tT K N' i (some a) L2 → tT K N' u (some b) L3 → k22 N N' →
      (∀ z, on1 m z + on1 a z + on1 b z + CC.count z + (ad L1).count z + (ad L2).count z + (ad L3).count z = 0 → N' z = N z) → post () N') : wJ21_rotateLeft K post N m (some a) := by
  have ba : b ≠ a := fun e => by have := hc a; rw [e] at this; have := on1_s a; omega
  have am : a ≠ m := fun e => by have := hc a; rw [← e] at this; have := on1_s a; omega
  have bm : b ≠ m := fun e => by have := hc b; rw [← e] at this; have := on1_s b; omega
  have a2 : a ∉ ad L2 := fun e => by have := hc a; have := on1_s a; have := cntP e; omega
  have b2 : b ∉ ad L2 := fun e => by have := hc b; have := on1_s b; have := cntP e; omega
  have m2 : m ∉ ad L2 := fun e => by have := hc m; have := on1_s m; have := cntP e; omega
  have aC : a ∉ CC := fun e => by have := hc a; have := on1_s a; have := cntP e; omega
  have bC : b ∉ CC := fun e => by have := hc b; have := on1_s b; have := cntP e; omega
  have mC : m ∉ CC := fun e => by have := hc m; have := on1_s m; have := cntP e; omega
  have d2C : ∀ z ∈ ad L2, z ∉ CC := fun z e f => by have := hc z; have := cntP e; have := cntP f; omega
  have fin : ∀ (N1 N3 : NM), (∀ N2 : NM, (∀ z ∈ ad L2, N2 z = N1 z) → k22 N N2 → tT K N2 i (some a) L2) → N3 b = some (nOd ko' vo' i u q c') → N3 a = some (nOd ko vo o i q c) → (∀ z, z ≠ a → z ≠ b → z ∉ ad L2 → z ≠ m → z ∉ CC → N3 z = N z) → (∀ z ∈ ad L2, N3 z = N1 z) → k22 N N3 → (∀ N4 : NM, (∀ z, z ≠ a → z ≠ b → N4 z = N3 z) → k22 N N4 → P N4 (some b)) → wJ21_rotateLeft_85 K post (some a) (some b) N3 := by
    intro N1 N3 hi hb3 ha3 h0 h4 hk hcc
    unfold wJ21_rotateLeft_85
    refine ⟨b, rfl, _, _, _, _, _, _, hb3, fun N88 e88 => ⟨a, rfl, _, _, _, _, _, _, at_ne e88 (Ne.symm ba) ha3, fun N100 e100 => ?_⟩⟩
    have k3 : k22 N N100 := by
      rw [e100]
      refine k22.up (fs := _) (i := 20) ?_ (at_ne e88 (Ne.symm ba) ha3) (by decide)
      rw [e88]
      exact k22.up hk hb3 (by decide)
    have f0 : ∀ z, z ≠ a → z ≠ b → N100 z = N3 z := fun z za zb => by rw [e100, up_ne _ _ _ za, e88, up_ne _ _ _ zb]
    have f2 : ∀ z ∈ ad L2, N100 z = N1 z := fun z hz => by
      rw [f0 z (fun e => a2 (by rw [← e]; exact hz)) (fun e => b2 (by rw [← e]; exact hz))]; exact h4 z hz
    have fX : ∀ z, on1 m z + on1 a z + on1 b z + CC.count z + (ad L2).count z = 0 → N100 z = N z := fun z hz => by
      have za : z ≠ a := fun e => by rw [e] at hz; have := on1_s a; omega
      have zb : z ≠ b := fun e => by rw [e] at hz; have := on1_s b; omega
      have zm : z ≠ m := fun e => by rw [e] at hz; have := on1_s m; omega
      rw [f0 z za zb]
      exact h0 z za zb (fun e => by have := cntP e; omega) zm (fun e => by have := cntP e; omega)
    refine h N100 (hcc N100 f0 k3) ?_ (at_up e100) (h1.fr (fun z hz => fX z ?_) k3) (hi N100 f2 k3) (h3.fr (fun z hz => fX z ?_) k3) k3 (fun z hz => fX z (by omega))
    · rw [e100, up_ne _ _ _ ba]; exact at_up e88
    · have := hc z; have := cntP hz; omega
    · have := hc z; have := cntP hz; omega
  have key : ∀ N1 : NM, N1 a = some (nOd ko vo o i q c) → N1 b = some (nOd ko' vo' i u (some a) c') → (∀ z, z ≠ a → z ∉ ad L2 → N1 z = N z) → (∀ N2 : NM, (∀ z ∈ ad L2, N2 z = N1 z) → k22 N N2 → tT K N2 i (some a) L2) → k22 N N1 → wJ21_rotateLeft_32 K post m (some a) (some b) N1 := by
    intro N1 ha1 hb1 h0 hi hk
    unfold wJ21_rotateLeft_32
    refine ⟨a, rfl, _, _, _, _, _, _, ha1, b, rfl, _, _, _, _, _, _, hb1, fun N51 e51 => ⟨_, _, _, _, _, _, at_ne e51 (Ne.symm ba) ha1, ?_⟩⟩
    have k51 : k22 N N51 := by rw [e51]; exact k22.up hk hb1 (by decide)
    have ha5 : N51 a = some (nOd ko vo o i q c) := at_ne e51 (Ne.symm ba) ha1
    have hb5 : N51 b = some (nOd ko' vo' i u q c') := at_up e51
    have h5 : ∀ z, z ≠ a → z ≠ b → z ∉ ad L2 → N51 z = N z := fun z za zb z2 => by rw [e51, up_ne _ _ _ zb]; exact h0 z za z2
    have h52 : ∀ z ∈ ad L2, N51 z = N1 z := fun z hz => by rw [e51, up_ne _ _ _ (fun e => b2 (by rw [← e]; exact hz))]
    rcases hP with ⟨eq, s, md, hm, hre⟩ | ⟨w, kw, vw, lw, rw', gw, cw, eq, wm, hw, hre⟩
    · subst eq
      have hm5 : N51 m = some (oMp cmp (some a) s md) := by rw [h5 m (Ne.symm am) (Ne.symm bm) m2]; exact hm
      refine ⟨fun _ => ⟨_, _, _, _, _, _, _, _, _, hm5, fun N74 e74 => fin N1 N74 hi (at_ne e74 bm hb5) (at_ne e74 am ha5) (fun z za zb z2 zm zC => ?_) (fun z hz => ?_) ?_ (fun N4 f4 k4 => hre N4 (some b) ?_ (fun z hz => ?_) k4)⟩, fun a62 e => (by cases e)⟩
      · rw [e74, up_ne _ _ _ zm]; exact h5 z za zb z2
      · rw [e74, up_ne _ _ _ (fun e => m2 (by rw [← e]; exact hz))]; exact h52 z hz
      · rw [e74]; exact k22.up k51 hm5 (by decide)
      · rw [f4 m (Ne.symm am) (Ne.symm bm)]; exact at_up e74
      · have za : z ≠ a := fun e => aC (by rw [← e]; exact hz)
        have zb : z ≠ b := fun e => bC (by rw [← e]; exact hz)
        rw [f4 z za zb, e74, up_ne _ _ _ (fun e => mC (by rw [← e]; exact hz))]; exact h5 z za zb (fun e => d2C z e hz)
    · subst eq
      have wa : w ≠ a := fun e => aC (by rw [← e]; exact wm)
      have wb : w ≠ b := fun e => bC (by rw [← e]; exact wm)
      have w2 : w ∉ ad L2 := fun e => d2C w e wm
      have wmm : w ≠ m := fun e => mC (by rw [← e]; exact wm)
      have hw5 : N51 w = some (nOd kw vw lw rw' gw cw) := by rw [h5 w wa wb w2]; exact hw
      refine ⟨fun e => (by cases e), fun a62 e => ?_⟩
      cases e
      refine ⟨_, _, _, _, _, _, hw5, ?_⟩
      have go : ∀ (N7 : NM) (cell : NE), N7 = va_up N51 w (some cell) → (∀ N4 : NM, N4 w = some cell → (∀ z ∈ CC, z ≠ w → N4 z = N z) → N4 m = N m → k22 N N4 → P N4 (some b)) → wJ21_rotateLeft_85 K post (some a) (some b) N7 := by
        intro N7 cell e7 hre
        refine fin N1 N7 hi (at_ne e7 (Ne.symm wb) hb5) (at_ne e7 (Ne.symm wa) ha5) (fun z za zb z2 zm zC => ?_) (fun z hz => ?_) ?_ (fun N4 f4 k4 => hre N4 ?_ (fun z hz zw => ?_) ?_ k4)
        · rw [e7, up_ne _ _ _ (fun e => zC (by rw [e]; exact wm))]; exact h5 z za zb z2
        · rw [e7, up_ne _ _ _ (fun e => w2 (by rw [← e]; exact hz))]; exact h52 z hz
        · rw [e7]; exact k22.up k51 hw5 (by decide)
        · rw [f4 w wa wb]; exact at_up e7
        · have za : z ≠ a := fun e => aC (by rw [← e]; exact hz)
          have zb : z ≠ b := fun e => bC (by rw [← e]; exact hz)
          rw [f4 z za zb, e7, up_ne _ _ _ zw]; exact h5 z za zb (fun e => d2C z e hz)
        · rw [f4 m (Ne.symm am) (Ne.symm bm), e7, up_ne _ _ _ (Ne.symm wmm)]; exact h5 m (Ne.symm am) (Ne.symm bm) m2
      rcases hre with ⟨f1, f2, hre⟩ | ⟨f1, f2, hre⟩
      · exact b_t f1 (fun N114 e114 => go N114 _ e114 (fun N4 => hre N4 (some b)))
      · exact b_f f2 (fun N111 e111 => go N111 _ e111 (fun N4 => hre N4 (some b)))
  unfold wJ21_rotateLeft
  refine ⟨fun e => (by cases e), fun a2 e2 => ?_⟩
  cases e2
  refine ⟨_, _, _, _, _, _, ha, b, rfl, _, _, _, _, _, _, hb, fun N20 e20 => ⟨_, _, _, _, _, _, at_ne e20 ba hb, fun ei => ?_, fun d ed => ?_⟩⟩
  · subst ei
    have e2 := h2.none
    refine key N20 (at_up e20) (at_ne e20 ba hb) (fun z za _ => by rw [e20, up_ne _ _ _ za]) (fun N2 _ _ => by rw [e2]; exact tT.nil) (by rw [e20]; exact k22.up (k22.rf N) ha (by decide))
  · subst ed
    obtain ⟨kd, vd, ld, rd, cd, hd, hre⟩ := h2.re (ndc (fun z => by have := hc z; omega))
    have dm := h2.mem
    have da : d ≠ a := fun e => a2 (by rw [← e]; exact dm)
    have db : d ≠ b := fun e => b2 (by rw [← e]; exact dm)
    have hd0 : N20 d = some (nOd kd vd ld rd (some b) cd) := at_ne e20 da hd
    refine ⟨_, _, _, _, _, _, hd0, fun N124 e124 => key N124 (at_ne e124 (Ne.symm da) (at_up e20)) (at_ne e124 (Ne.symm db) (at_ne e20 ba hb)) (fun z za z2 => ?_) (fun N2 f2 k2 => hre N2 (some a) cd ?_ (fun z hz zd => ?_) k2) ?_⟩
    · rw [e124, up_ne _ _ _ (fun e => z2 (by rw [e]; exact dm)), e20, up_ne _ _ _ za]
    · rw [f2 d dm]; exact at_up e124
    · rw [f2 z hz, e124, up_ne _ _ _ zd, e20, up_ne _ _ _ (fun e => a2 (by rw [← e]; exact hz))]
    · rw [e124]; exact k22.up (by rw [e20]; exact k22.up (k22.rf N) ha (by decide)) hd0 (by decide)
end
section
variable {K : Nat → Nat → Nat}
theorem t_rotRight {post : Unit → NM → Prop} {N : NM} {m cmp a b ko ko' : Nat} {vo vo' q o i u : Option Nat} {c c' : Bool} {CC : List Nat} {P : NM → Option Nat → Prop} {L1 L2 L3 : List (Nat × Int)}
    (hP : hoP N m cmp a q CC P) (ha : N a = some (nOd ko vo (some b) o q c)) (hb : N b = some (nOd ko' vo' u i (some a) c'))
    (h1 : tT K N o (some a) L1) (h2 : tT K N i (some b) L2) (h3 : tT K N u (some b) L3)
    (hc : ∀ z, on1 m z + on1 a z + on1 b z + CC.count z + (ad L1).count z + (ad L2).count z + (ad L3).count z ≤ 1)
    (h : ∀ N' : NM, P N' (some b) → N' b = some (nOd ko' vo' u (some a) q c') → N' a = some (nOd ko vo i o (some b) c) → tT K N' o (some a) L1 → tT K N' i (some a) L2 → tT K N' u (some b) L3 → k22 N N' →
      (∀ z, on1 m z + on1 a z + on1 b z + CC.count z + (ad L1).count z + (ad L2).count z + (ad L3).count z = 0 → N' z = N z) → post () N') : wJ21_rotateRight K post N m (some a) := by
  have ba : b ≠ a := fun e => by have := hc a; rw [e] at this; have := on1_s a; omega
  have am : a ≠ m := fun e => by have := hc a; rw [← e] at this; have := on1_s a; omega
  have bm : b ≠ m := fun e => by have := hc b; rw [← e] at this; have := on1_s b; omega
  have a2 : a ∉ ad L2 := fun e => by have := hc a; have := on1_s a; have := cntP e; omega
  have b2 : b ∉ ad L2 := fun e => by have := hc b; have := on1_s b; have := cntP e; omega
  have m2 : m ∉ ad L2 := fun e => by have := hc m; have := on1_s m; have := cntP e; omega
  have aC : a ∉ CC := fun e => by have := hc a; have := on1_s a; have := cntP e; omega
  have bC : b ∉ CC := fun e => by have := hc b; have := on1_s b; have := cntP e; omega
  have mC : m ∉ CC := fun e => by have := hc m; have := on1_s m; have := cntP e; omega
  have d2C : ∀ z ∈ ad L2, z ∉ CC := fun z e f => by have := hc z; have := cntP e; have := cntP f; omega
  have fin : ∀ (N1 N3 : NM), (∀ N2 : NM, (∀ z ∈ ad L2, N2 z = N1 z) → k22 N N2 → tT K N2 i (some a) L2) → N3 b = some (nOd ko' vo' u i q c') → N3 a = some (nOd ko vo i o q c) → (∀ z, z ≠ a → z ≠ b → z ∉ ad L2 → z ≠ m → z ∉ CC → N3 z = N z) → (∀ z ∈ ad L2, N3 z = N1 z) → k22 N N3 → (∀ N4 : NM, (∀ z, z ≠ a → z ≠ b → N4 z = N3 z) → k22 N N4 → P N4 (some b)) → wJ21_rotateRight_85 K post (some a) (some b) N3 := by
    intro N1 N3 hi hb3 ha3 h0 h4 hk hcc
    unfold wJ21_rotateRight_85
    refine ⟨b, rfl, _, _, _, _, _, _, hb3, fun N88 e88 => ⟨a, rfl, _, _, _, _, _, _, at_ne e88 (Ne.symm ba) ha3, fun N100 e100 => ?_⟩⟩
    have k3 : k22 N N100 := by
      rw [e100]
      refine k22.up (fs := _) (i := 20) ?_ (at_ne e88 (Ne.symm ba) ha3) (by decide)
      rw [e88]
      exact k22.up hk hb3 (by decide)
    have f0 : ∀ z, z ≠ a → z ≠ b → N100 z = N3 z := fun z za zb => by rw [e100, up_ne _ _ _ za, e88, up_ne _ _ _ zb]
    have f2 : ∀ z ∈ ad L2, N100 z = N1 z := fun z hz => by
      rw [f0 z (fun e => a2 (by rw [← e]; exact hz)) (fun e => b2 (by rw [← e]; exact hz))]; exact h4 z hz
    have fX : ∀ z, on1 m z + on1 a z + on1 b z + CC.count z + (ad L2).count z = 0 → N100 z = N z := fun z hz => by
      have za : z ≠ a := fun e => by rw [e] at hz; have := on1_s a; omega
      have zb : z ≠ b := fun e => by rw [e] at hz; have := on1_s b; omega
      have zm : z ≠ m := fun e => by rw [e] at hz; have := on1_s m; omega
      rw [f0 z za zb]
      exact h0 z za zb (fun e => by have := cntP e; omega) zm (fun e => by have := cntP e; omega)
    refine h N100 (hcc N100 f0 k3) ?_ (at_up e100) (h1.fr (fun z hz => fX z ?_) k3) (hi N100 f2 k3) (h3.fr (fun z hz => fX z ?_) k3) k3 (fun z hz => fX z (by omega))
    · rw [e100, up_ne _ _ _ ba]; exact at_up e88
    · have := hc z; have := cntP hz; omega
    · have := hc z; have := cntP hz; omega
  have key : ∀ N1 : NM, N1 a = some (nOd ko vo i o q c) → N1 b = some (nOd ko' vo' u i (some a) c') → (∀ z, z ≠ a → z ∉ ad L2 → N1 z = N z) → (∀ N2 : NM, (∀ z ∈ ad L2, N2 z = N1 z) → k22 N N2 → tT K N2 i (some a) L2) → k22 N N1 → wJ21_rotateRight_32 K post m (some a) (some b) N1 := by
    intro N1 ha1 hb1 h0 hi hk
    unfold wJ21_rotateRight_32
    refine ⟨a, rfl, _, _, _, _, _, _, ha1, b, rfl, _, _, _, _, _, _, hb1, fun N51 e51 => ⟨_, _, _, _, _, _, at_ne e51 (Ne.symm ba) ha1, ?_⟩⟩
    have k51 : k22 N N51 := by rw [e51]; exact k22.up hk hb1 (by decide)
    have ha5 : N51 a = some (nOd ko vo i o q c) := at_ne e51 (Ne.symm ba) ha1
    have hb5 : N51 b = some (nOd ko' vo' u i q c') := at_up e51
    have h5 : ∀ z, z ≠ a → z ≠ b → z ∉ ad L2 → N51 z = N z := fun z za zb z2 => by rw [e51, up_ne _ _ _ zb]; exact h0 z za z2
    have h52 : ∀ z ∈ ad L2, N51 z = N1 z := fun z hz => by rw [e51, up_ne _ _ _ (fun e => b2 (by rw [← e]; exact hz))]
    rcases hP with ⟨eq, s, md, hm, hre⟩ | ⟨w, kw, vw, lw, rw', gw, cw, eq, wm, hw, hre⟩
    · subst eq
      have hm5 : N51 m = some (oMp cmp (some a) s md) := by rw [h5 m (Ne.symm am) (Ne.symm bm) m2]; exact hm
      refine ⟨fun _ => ⟨_, _, _, _, _, _, _, _, _, hm5, fun N74 e74 => fin N1 N74 hi (at_ne e74 bm hb5) (at_ne e74 am ha5) (fun z za zb z2 zm zC => ?_) (fun z hz => ?_) ?_ (fun N4 f4 k4 => hre N4 (some b) ?_ (fun z hz => ?_) k4)⟩, fun a62 e => (by cases e)⟩
      · rw [e74, up_ne _ _ _ zm]; exact h5 z za zb z2
      · rw [e74, up_ne _ _ _ (fun e => m2 (by rw [← e]; exact hz))]; exact h52 z hz
      · rw [e74]; exact k22.up k51 hm5 (by decide)
      · rw [f4 m (Ne.symm am) (Ne.symm bm)]; exact at_up e74
      · have za : z ≠ a := fun e => aC (by rw [← e]; exact hz)
        have zb : z ≠ b := fun e => bC (by rw [← e]; exact hz)
        rw [f4 z za zb, e74, up_ne _ _ _ (fun e => mC (by rw [← e]; exact hz))]; exact h5 z za zb (fun e => d2C z e hz)
    · subst eq
      have wa : w ≠ a := fun e => aC (by rw [← e]; exact wm)
      have wb : w ≠ b := fun e => bC (by rw [← e]; exact wm)
      have w2 : w ∉ ad L2 := fun e => d2C w e wm
      have wmm : w ≠ m := fun e => mC (by rw [← e]; exact wm)
      have hw5 : N51 w = some (nOd kw vw lw rw' gw cw) := by rw [h5 w wa wb w2]; exact hw
      refine ⟨fun e => (by cases e), fun a62 e => ?_⟩
      cases e
      refine ⟨_, _, _, _, _, _, hw5, ?_⟩
      have go : ∀ (N7 : NM) (cell : NE), N7 = va_up N51 w (some cell) → (∀ N4 : NM, N4 w = some cell → (∀ z ∈ CC, z ≠ w → N4 z = N z) → N4 m = N m → k22 N N4 → P N4 (some b)) → wJ21_rotateRight_85 K post (some a) (some b) N7 := by
        intro N7 cell e7 hre
        refine fin N1 N7 hi (at_ne e7 (Ne.symm wb) hb5) (at_ne e7 (Ne.symm wa) ha5) (fun z za zb z2 zm zC => ?_) (fun z hz => ?_) ?_ (fun N4 f4 k4 => hre N4 ?_ (fun z hz zw => ?_) ?_ k4)
        · rw [e7, up_ne _ _ _ (fun e => zC (by rw [e]; exact wm))]; exact h5 z za zb z2
        · rw [e7, up_ne _ _ _ (fun e => w2 (by rw [← e]; exact hz))]; exact h52 z hz
        · rw [e7]; exact k22.up k51 hw5 (by decide)
        · rw [f4 w wa wb]; exact at_up e7
        · have za : z ≠ a := fun e => aC (by rw [← e]; exact hz)
          have zb : z ≠ b := fun e => bC (by rw [← e]; exact hz)
          rw [f4 z za zb, e7, up_ne _ _ _ zw]; exact h5 z za zb (fun e => d2C z e hz)
        · rw [f4 m (Ne.symm am) (Ne.symm bm), e7, up_ne _ _ _ (Ne.symm wmm)]; exact h5 m (Ne.symm am) (Ne.symm bm) m2
      rcases hre with ⟨f1, f2, hre⟩ | ⟨f1, f2, hre⟩
      · exact b_f f2 (fun N111 e111 => go N111 _ e111 (fun N4 => hre N4 (some b)))
      · exact b_t f1 (fun N114 e114 => go N114 _ e114 (fun N4 => hre N4 (some b)))
  unfold wJ21_rotateRight
  refine ⟨fun e => (by cases e), fun a2 e2 => ?_⟩
  cases e2
  refine ⟨_, _, _, _, _, _, ha, b, rfl, _, _, _, _, _, _, hb, fun N20 e20 => ⟨_, _, _, _, _, _, at_ne e20 ba hb, fun ei => ?_, fun d ed => ?_⟩⟩
  · subst ei
    have e2 := h2.none
    refine key N20 (at_up e20) (at_ne e20 ba hb) (fun z za _ => by rw [e20, up_ne _ _ _ za]) (fun N2 _ _ => by rw [e2]; exact tT.nil) (by rw [e20]; exact k22.up (k22.rf N) ha (by decide))
  · subst ed
    obtain ⟨kd, vd, ld, rd, cd, hd, hre⟩ := h2.re (ndc (fun z => by have := hc z; omega))
    have dm := h2.mem
    have da : d ≠ a := fun e => a2 (by rw [← e]; exact dm)
    have db : d ≠ b := fun e => b2 (by rw [← e]; exact dm)
    have hd0 : N20 d = some (nOd kd vd ld rd (some b) cd) := at_ne e20 da hd
    refine ⟨_, _, _, _, _, _, hd0, fun N124 e124 => key N124 (at_ne e124 (Ne.symm da) (at_up e20)) (at_ne e124 (Ne.symm db) (at_ne e20 ba hb)) (fun z za z2 => ?_) (fun N2 f2 k2 => hre N2 (some a) cd ?_ (fun z hz zd => ?_) k2) ?_⟩
    · rw [e124, up_ne _ _ _ (fun e => z2 (by rw [e]; exact dm)), e20, up_ne _ _ _ za]
    · rw [f2 d dm]; exact at_up e124
    · rw [f2 z hz, e124, up_ne _ _ _ zd, e20, up_ne _ _ _ (fun e => a2 (by rw [← e]; exact hz))]
    · rw [e124]; exact k22.up (by rw [e20]; exact k22.up (k22.rf N) ha (by decide)) hd0 (by decide)
end
