set_option maxRecDepth 100000
set_option maxHeartbeats 4000000
/-! the component reads a part of an identity -/
def k2 (x rp : Nat) (N N' : NM) : Prop := ∀ z e, N z = some e → z ≠ x → z ≠ rp → N' z = some e
theorem k2.refl (x rp : Nat) (N : NM) : k2 x rp N N := fun _ _ h _ _ => h
theorem k2.trans {x rp : Nat} {N N1 N2 : NM} (h : k2 x rp N N1) (g : k2 x rp N1 N2) : k2 x rp N N2 := fun z e a b c => g z e (h z e a b c) b c
theorem kx.k2 {x rp : Nat} {N N' : NM} (h : kx x N N') : k2 x rp N N' := fun z e a b _ => h z e a b
theorem nw.k2 {x rp : Nat} {N N' : NM} (h : nw N N') : k2 x rp N N' := fun z e a _ _ => h z e a
theorem k2.atx {x rp : Nat} {N N' : NM} (h : k2 x rp N N') (e : Option NE) : k2 x rp N (va_up N' x e) := fun z e' h1 h2 h3 => by
  rw [up_ne _ _ _ h2]; exact h z e' h1 h2 h3
theorem k2.atr {x rp : Nat} {N N' : NM} (h : k2 x rp N N') (e : Option NE) : k2 x rp N (va_up N' rp e) := fun z e' h1 h2 h3 => by
  rw [up_ne _ _ _ h3]; exact h z e' h1 h2 h3
theorem k2.new {x rp : Nat} {N N' : NM} (h : k2 x rp N N') {q : Nat} (hq : N q = none) (e : NE) : k2 x rp N (va_up N' q (some e)) := fun z e' h1 h2 h3 => by
  rw [up_ne _ _ _ (fun w => by rw [w, hq] at h1; cases h1)]; exact h z e' h1 h2 h3
theorem k2.dm {x rp : Nat} {N N' : NM} {e1 e2 : NE} (h : k2 x rp N N') (hx : N' x = some e1) (hr : N' rp = some e2) : dm N N' := fun z hz c => by
  cases e : N z with
  | none => exact hz e
  | some u =>
    have := h z u e (fun w => by rw [w, hx] at c; cases c) (fun w => by rw [w, hr] at c; cases c)
    rw [c] at this; cases this
abbrev rpC (m l : Nat) : NE := eO 12 [.int (iI (m : Nat)), .int (iI (l : Nat))]
def cS (N : NM) (q : Nat) (X : List (Int × Int)) : Prop := cSm N X.length q X
theorem cSm.kq {N N' : NM} (h : ∀ z c fs, N z = some (eO c fs) → 8 ≤ c → c ≤ 11 → N' z = some (eO c fs)) : ∀ (d q : Nat) (X : List (Int × Int)), cSm N d q X → cSm N' d q X
  | 0, _, _, hs => hs
  | d + 1, q, X, hs => by
    rcases hs with ⟨v, a1, a2⟩ | ⟨w, a1, a2⟩ | ⟨c, qa, qb, Xa, Xb, a1, a2, a3, a4, a5⟩ | ⟨e, qa, Xa, a1, a2, a3, a4, a5⟩
    · exact Or.inl ⟨v, h _ _ _ a1 (by omega) (by omega), a2⟩
    · exact Or.inr (Or.inl ⟨w, h _ _ _ a1 (by omega) (by omega), a2⟩)
    · exact Or.inr (Or.inr (Or.inl ⟨c, qa, qb, Xa, Xb, h _ _ _ a1 (by omega) (by omega), a2, a3, cSm.kq h d qa Xa a4, cSm.kq h d qb Xb a5⟩))
    · exact Or.inr (Or.inr (Or.inr ⟨e, qa, Xa, h _ _ _ a1 (by omega) (by omega), a2, a3, a4, cSm.kq h d qa Xa a5⟩))
theorem cSm.ups {N : NM} {q : Nat} {X : List (Int × Int)} : ∀ (k d : Nat), cSm N d q X → cSm N (d + k) q X
  | 0, d, h => h
  | k + 1, d, h => cSm.more (d + k) q X (cSm.ups k d h)
theorem cSm.le {N : NM} {q d d' : Nat} {X : List (Int × Int)} (h : cSm N d q X) (hd : d ≤ d') : cSm N d' q X := by
  have := cSm.ups (d' - d) d h
  rw [show d + (d' - d) = d' by omega] at this
  exact this
/-- how many parts a reading takes at most -/
def bdX (s : xst) : xR → Nat
  | .inr s' => s'.2.2.1 - s.2.2.1
  | .inl _ => 61 - s.2.2.1
def xO (a : Nat → Nat) (x rp : Nat) (N : NM) (C : List (Int × Int)) (j : Nat) (R : xR) (post : Option Nat → NM → Prop) (xp : Nat → List Nat → NM → Prop) : Prop :=
  (∀ s', R = .inr s' → ∀ N' q b' X, k2 x rp N N' → N' x = some (rdr a s'.1 b' (iI (j : Nat))) → N' rp = some (rpC s'.2.2.1 s'.2.2.2) → s'.2.1 = C ++ X → cS N' q X → post (some q) N') ∧
  (∀ k pl i, R = .inl (k, pl, i) → ∀ N' y f1 f2 f3 f4 g p' b', k2 x rp N N' → dm N N' → N' x = some (rdr a p' b' (iI i)) → N y = none → N' y = some (oWr f1 f2 f3 f4 g k (pl : Nat)) → xp y [y] N')
section
variable {K : Nat → Nat → Nat} {a : Nat → Nat}
theorem cS.k2 {x rp p m l q : Nat} {b d : Int32} {N N' : NM} {X : List (Int × Int)} (h : cS N q X) (hx : N x = some (rdr a p b d)) (hr : N rp = some (rpC m l)) (hk : k2 x rp N N') : cS N' q X :=
  cSm.kq (fun z c fs hz c1 c2 => hk _ _ hz (fun w => by rw [w, hx] at hz; have := (Prod.mk.inj (Sum.inr.inj (Option.some.inj hz))).1; omega) (fun w => by rw [w, hr] at hz; have := (Prod.mk.inj (Sum.inr.inj (Option.some.inj hz))).1; omega)) _ _ _ h
theorem cL.k2 {S : CS} {N N' : NM} {x rp p m l : Nat} {b d : Int32} (hL : cL K a S N) (hx : N x = some (rdr a p b d)) (hr : N rp = some (rpC m l)) (h : k2 x rp N N') : cL K a S N' := by
  refine ((hL.off (hL.out hx rfl) (N' x)).off (hL.out hr rfl) (N' rp)).nw (fun z e hz => ?_)
  by_cases c : z = rp
  · rw [c, up_eq] at hz; rw [c]; exact hz
  · rw [up_ne _ _ _ c] at hz
    by_cases c2 : z = x
    · rw [c2, up_eq] at hz; rw [c2]; exact hz
    · rw [up_ne _ _ _ c2] at hz; exact h z e hz c2 c
theorem xO.st {x rp j : Nat} {N N1 : NM} {C : List (Int × Int)} {R : xR} {post : Option Nat → NM → Prop} {xp : Nat → List Nat → NM → Prop} {e1 e2 : NE} (h : xO a x rp N C j R post xp) (hk : k2 x rp N N1) (hx : N1 x = some e1) (hr : N1 rp = some e2) : xO a x rp N1 C j R post xp :=
  ⟨fun s' hR N' q b' X k1 => h.1 s' hR N' q b' X (hk.trans k1), fun k pl i hR N' y f1 f2 f3 f4 g p' b' k1 k2 k3 k4 k5 => h.2 k pl i hR N' y f1 f2 f3 f4 g p' b' (hk.trans k1) ((hk.dm hx hr).tr k2) k3 ((hk.dm hx hr).no k4) k5⟩
theorem xO.bad {x rp j p' : Nat} {b' : Int32} {N : NM} {C : List (Int × Int)} {R : xR} {post : Option Nat → NM → Prop} {xp : Nat → List Nat → NM → Prop} {w i : Int} {q : Nat} (h : xO a x rp N C j R post xp) (hx : N x = some (rdr a p' b' (iI i))) (hR : R = .inl (w, q, i)) {y : Nat} {f1 f2 f3 f4 : Option Nat} {g : Int32} (hy : N y = none) : xp y [y] (va_up N y (some (oWr f1 f2 f3 f4 g w (q : Nat)))) :=
  h.2 w q i hR _ y f1 f2 f3 f4 g p' b' ((k2.refl x rp N).new hy _) ((dm.rf N).up y _) (by rw [up_ne _ _ _ (fun c => by rw [← c, hx] at hy; cases hy)]; exact hx) hy (up_eq _ _ _)
theorem xO.bad' {x rp j : Nat} {p' p'' : Nat} {b' b'' : Int32} {N : NM} {C : List (Int × Int)} {R : xR} {post : Option Nat → NM → Prop} {xp : Nat → List Nat → NM → Prop} {w i : Int} {q : Nat} (h : xO a x rp N C j R post xp) (hx : N x = some (rdr a p' b' (iI i))) (hR : R = .inl (w, q, i)) {y : Nat} {f1 f2 f3 f4 : Option Nat} {g : Int32} (hy : N y = none) : xp y [y] (va_up (va_up N x (some (rdr a p'' b'' (iI i)))) y (some (oWr f1 f2 f3 f4 g w (q : Nat)))) :=
  h.2 w q i hR _ y f1 f2 f3 f4 g p'' b'' (((k2.refl x rp N).atx _).new hy _) (((dm.rf N).up x _).up y _) (by rw [up_ne _ _ _ (fun c => by rw [← c, hx] at hy; cases hy)]; exact up_eq _ _ _) hy (up_eq _ _ _)
/-- a letter alone -/
theorem lt_iff {T : Nat → Int} {n p : Nat} : ltAt T n p ↔ ∃ c, snL T n 8 p = [c] ∧ c = T p ∧ 97 ≤ c ∧ c ≤ 102 := by
  rw [snL_at, runE_min isL T n (by decide) 8 (n - p) p (by omega)]
  by_cases c : isL (chr T n p) = true
  · have hs := srt1.2 c
    have hq := chr_of (P := isL) (by decide) c
    have he : ende T n p = runE isL T n (n - p) p := by
      unfold ende
      rw [if_neg (by omega), if_pos (by rw [← hq.2]; exact c)]
    have hle := runE_le isL T n (n - p) p
    have hl := (isL_iff _).1 c
    rw [hq.2] at hl
    rw [← he] at hle ⊢
    refine ⟨fun h => ?_, fun ⟨d, h1, h2, h3, h4⟩ => ?_⟩
    · have h2 := lt_val h
      refine ⟨T p, ?_, rfl, by omega, by have := h.2.2; omega⟩
      rw [h.2.1, show min 8 (p + 1 - p) = 1 by omega]; rfl
    · have el := congrArg List.length h1
      simp only [List.length_map, List.length_range, List.length_singleton] at el
      have he1 : ende T n p = p + 1 := by omega
      refine ⟨hs, he1, ?_⟩
      unfold wrdV
      rw [if_pos hs, he1, show min 7 (p + 1 - p) = 1 by omega]
      show 32 * 0 + (T (p + 0) - 96) ≤ 6
      rw [Nat.add_zero]; omega
  · have hs : ¬ srt T n p = 1 := fun e => c (srt1.1 e)
    have he : runE isL T n (n - p) p = p := by
      cases n - p with
      | zero => rfl
      | succ k => unfold runE; rw [if_neg c]
    rw [he, show min 8 (p - p) = 0 by omega]
    exact ⟨fun h => absurd h.1 hs, fun ⟨d, h1, _⟩ => by cases h1⟩
theorem ch255 (c : Fin 128) : ((iI ((c.val : Nat) : Int) &&& 255).toUInt32 % 65536).toInt32 = iI ((c.val : Nat) : Int) := by
  have : ∀ c : Fin 128, ((iI ((c.val : Nat) : Int) &&& 255).toUInt32 % 65536).toInt32 = iI ((c.val : Nat) : Int) := by decide +kernel
  exact this c
theorem bit_or6 (l : Fin 64) (k : Fin 6) : iI ((l.val : Nat) : Int) ||| ((1 : Int32) <<< (iI ((k.val : Nat) : Int) &&& 31)) = iI (((l.val ||| 1 <<< k.val : Nat)) : Int) := by
  have : ∀ (l : Fin 64) (k : Fin 6), iI ((l.val : Nat) : Int) ||| ((1 : Int32) <<< (iI ((k.val : Nat) : Int) &&& 31)) = iI (((l.val ||| 1 <<< k.val : Nat)) : Int) := by decide +kernel
  exact this l k
theorem c_plain {post : Option Nat → NM → Prop} {N : NM} {v : Int} {MC MS : Nat} (hMC : 1 ≤ MC) (hMS : 1 ≤ MS) (h : ∀ q, N q = none → post (some q) (va_up N q (some (eO 8 [.long (lI v)])))) : wX0_plain K post MC MS N (lI v) := by
  unfold wX0_plain wX11_init wX10_init
  refine ⟨hMC, hMS, fun q hq N5 e5 => ⟨_, at_up e5, fun N3 e3 => ?_⟩⟩
  rw [e3, e5, up_up]; exact h q hq
theorem c_letter {post : Option Nat → NM → Prop} {N : NM} {v : Int} {MC MS : Nat} (hMC : 1 ≤ MC) (hMS : 1 ≤ MS) (h : ∀ q, N q = none → post (some q) (va_up N q (some (eO 9 [.int (iI v)])))) : wX0_letter K post MC MS N (iI v) := by
  unfold wX0_letter wX12_init wX10_init
  refine ⟨hMC, hMS, fun q hq N5 e5 => ⟨_, at_up e5, fun N3 e3 => ?_⟩⟩
  rw [e3, e5, up_up]; exact h q hq
theorem c_power {post : Option Nat → NM → Prop} {N : NM} {v : Int} {q0 : Option Nat} {MC MS : Nat} (hMC : 1 ≤ MC) (hMS : 2 ≤ MS) (h : ∀ q, N q = none → post (some q) (va_up N q (some (eO 11 [va_rf q0, .int (iI v)])))) : wX0_power K post MC MS N q0 (iI v) := by
  unfold wX0_power wX13_init wX10_init
  refine ⟨hMC, hMS, fun q hq N5 e5 => ⟨_, _, at_up e5, fun N4 e4 N7 e7 => ?_⟩⟩
  rw [e7, e4, e5, up_up, up_up]; exact h q hq
theorem c_both {post : Option Nat → NM → Prop} {N : NM} {c : Int} {qa qb : Option Nat} {MC MS : Nat} (hMC : 1 ≤ MC) (hMS : 3 ≤ MS) (h : ∀ q, N q = none → post (some q) (va_up N q (some (eO 10 [va_rf qa, va_rf qb, .int (iI c)])))) : wX0_both K post MC MS N (iI c) qa qb := by
  unfold wX0_both wX14_init wX10_init
  refine ⟨hMC, hMS, fun q hq N5 e5 => ⟨_, _, _, at_up e5, fun N6 e6 N8 e8 N11 e11 => ?_⟩⟩
  rw [e11, e8, e6, e5, up_up, up_up, up_up]; exact h q hq
end
