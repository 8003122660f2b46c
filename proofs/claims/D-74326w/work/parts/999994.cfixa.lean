set_option maxRecDepth 100000
set_option maxHeartbeats 4000000
/-! what the map asks of nodes -/
section
variable {K : Nat → Nat → Nat}
theorem cV_isB (c : Bool) : isB (cV c) := by cases c <;> first | exact Or.inl rfl | exact Or.inr rfl
theorem p_par {post : Option Nat → NM → Prop} {N : NM} {a ko : Nat} {vo l r q : Option Nat} {c : Bool} (h : N a = some (nOd ko vo l r q c)) (hp : post q N) : wJ21_parentOf K post N (some a) := ⟨fun e => (by cases e), fun a2 e => by cases e; exact ⟨_, _, _, _, _, _, h, hp⟩⟩
theorem p_left {post : Option Nat → NM → Prop} {N : NM} {a ko : Nat} {vo l r q : Option Nat} {c : Bool} (h : N a = some (nOd ko vo l r q c)) (hp : post l N) : wJ21_leftOf K post N (some a) := ⟨fun e => (by cases e), fun a2 e => by cases e; exact ⟨_, _, _, _, _, _, h, hp⟩⟩
theorem p_right {post : Option Nat → NM → Prop} {N : NM} {a ko : Nat} {vo l r q : Option Nat} {c : Bool} (h : N a = some (nOd ko vo l r q c)) (hp : post r N) : wJ21_rightOf K post N (some a) := ⟨fun e => (by cases e), fun a2 e => by cases e; exact ⟨_, _, _, _, _, _, h, hp⟩⟩
theorem p_col {post : Int32 → NM → Prop} {N : NM} {a ko : Nat} {vo l r q : Option Nat} {c : Bool} (h : N a = some (nOd ko vo l r q c)) (hp : post (cV c) N) : wJ21_colorOf K post N (some a) := ⟨fun e => (by cases e), fun a2 e => by cases e; exact ⟨_, _, _, _, _, _, h, cV_isB c, hp⟩⟩
theorem p_col0 {post : Int32 → NM → Prop} {N : NM} (hp : post 1 N) : wJ21_colorOf K post N none := ⟨fun _ => hp, fun a2 e => (by cases e)⟩
theorem p_set {post : Unit → NM → Prop} {N : NM} {a ko : Nat} {vo l r q : Option Nat} {c : Bool} (c' : Bool) (h : N a = some (nOd ko vo l r q c)) (hp : ∀ N', N' = va_up N a (some (nOd ko vo l r q c')) → post () N') : wJ21_setColor K post N (some a) (cV c') := ⟨fun e => (by cases e), fun a2 e => by cases e; exact ⟨_, _, _, _, _, _, h, cV_isB c', fun N' e => hp N' e⟩⟩
theorem tC.map {N : NM} {m cmp : Nat} : ∀ (n : Nat) (h q : Option Nat) (LL RR : List (Nat × Int)), tC K N m cmp n h q LL RR → ∃ rt s md, N m = some (oMp cmp rt s md)
  | 0, h, q, LL, RR, hC => by
    obtain ⟨h1, h2, h3, s, md, h4⟩ := hC
    exact ⟨_, s, md, h4⟩
  | n + 1, h, q, LL, RR, hC => by
    obtain ⟨a, ko, vo, k, c, l, r, g, LL', RR', L', e1, e2, e3, e4, e5, e6, e7⟩ := hC
    exact tC.map n _ _ _ _ e5
theorem t_258 {post : Unit → NM → Prop} {N : NM} {m cmp g : Nat} {s md : Int32} {W : List (Nat × Int)} (hm : N m = some (oMp cmp (some g) s md)) (hT : tT K N (some g) none W) (hc : ∀ z, on1 m z + (ad W).count z ≤ 1) (h : ∀ N' : NM, N' m = some (oMp cmp (some g) s md) → tT K N' (some g) none W → (∃ ko vo l r, N' g = some (nOd ko vo l r none true)) → k22 N N' → (∀ z, on1 m z + (ad W).count z = 0 → N' z = N z) → post () N') : wJ21_fixAfterInsertion_258 K post m N := by
  obtain ⟨ko, vo, l, r, c, hg, hre⟩ := hT.re (ndc (fun z => by have := hc z; omega))
  have gm : g ∈ ad W := hT.mem
  have gmm : g ≠ m := fun e => by have := hc g; have := cntP gm; rw [e] at *; have := on1_s m; omega
  unfold wJ21_fixAfterInsertion_258
  refine ⟨_, _, _, _, _, _, _, _, _, hm, g, rfl, _, _, _, _, _, _, hg, fun N35 e35 => ?_⟩
  have hg' : N35 g = some (nOd ko vo l r none true) := at_up e35
  have kk : k22 N N35 := by rw [e35]; exact k22.up (k22.rf N) hg (by decide)
  refine h N35 (at_ne e35 (Ne.symm gmm) hm) (hre N35 none true hg' (fun z _ zg => by rw [e35, up_ne _ _ _ zg]) kk) ⟨ko, vo, l, r, hg'⟩ kk (fun z hz => ?_)
  rw [e35, up_ne _ _ _ (fun e => by rw [e] at hz; have := cntP gm; omega)]
end
