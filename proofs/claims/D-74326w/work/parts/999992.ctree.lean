set_option maxRecDepth 100000
set_option maxHeartbeats 4000000
/-! TreeMap of the told numbers: trees by their nodes in order (place, key turned) -/
abbrev cV (c : Bool) : Int32 := if c = true then 1 else 0
abbrev nOd (ko : Nat) (vo l r q : Option Nat) (c : Bool) : NE := eO 20 [va_rf (some ko), va_rf vo, va_rf l, va_rf r, va_rf q, .int (cV c)]
abbrev oMp (cmp : Nat) (rt : Option Nat) (s md : Int32) : NE := eO 19 [va_rf none, va_rf none, va_rf (some cmp), va_rf rt, .int s, .int md, va_rf none, va_rf none, va_rf none]
def ad (L : List (Nat × Int)) : List Nat := L.map Prod.fst
theorem ad_app (L M : List (Nat × Int)) : ad (L ++ M) = ad L ++ ad M := List.map_append
theorem ad_cons (p : Nat × Int) (M : List (Nat × Int)) : ad (p :: M) = p.1 :: ad M := rfl
def k22 (N N' : NM) : Prop := ∀ (z : Nat) (v : Int32), N z = some (eO 22 [.int v]) → N' z = some (eO 22 [.int v])
theorem k22.rf (N : NM) : k22 N N := fun _ _ h => h
theorem k22.tr {N N1 N2 : NM} (h : k22 N N1) (g : k22 N1 N2) : k22 N N2 := fun z v e => g z v (h z v e)
/-- no Integer's cell changes -/
theorem k22.up {N N' : NM} {z i : Nat} {fs : List Value} {e : Option NE} (h : k22 N N') (hz : N' z = some (eO i fs)) (hi : i ≠ 22) : k22 N (va_up N' z e) := fun y v hy => by
  have h1 := h y v hy
  rw [up_ne _ _ _ (fun c => by rw [c, hz] at h1; exact hi (Prod.mk.inj (Sum.inr.inj (Option.some.inj h1))).1)]
  exact h1
def tS (K : Nat → Nat → Nat) (N : NM) : Nat → Option Nat → Option Nat → List (Nat × Int) → Prop
  | 0, h, _, L => h = none ∧ L = []
  | n + 1, h, q, L => (h = none ∧ L = []) ∨ ∃ a ko vo k c l r L1 L2, h = some a ∧ N a = some (nOd ko vo l r q c) ∧ iAt K N ko (iI (-k)) ∧ (-3000 ≤ k ∧ k ≤ 3000) ∧ L = L1 ++ (a, k) :: L2 ∧ tS K N n l (some a) L1 ∧ tS K N n r (some a) L2
def tT (K : Nat → Nat → Nat) (N : NM) (h q : Option Nat) (L : List (Nat × Int)) : Prop := ∃ n, tS K N n h q L
/-- what lies around a place in the tree -/
def tC (K : Nat → Nat → Nat) (N : NM) (m cmp : Nat) : Nat → Option Nat → Option Nat → List (Nat × Int) → List (Nat × Int) → Prop
  | 0, h, q, LL, RR => q = none ∧ LL = [] ∧ RR = [] ∧ ∃ s md, N m = some (oMp cmp h s md)
  | n + 1, h, q, LL, RR => ∃ a ko vo k c l r g LL' RR' L', q = some a ∧ N a = some (nOd ko vo l r g c) ∧ iAt K N ko (iI (-k)) ∧ (-3000 ≤ k ∧ k ≤ 3000) ∧ tC K N m cmp n (some a) g LL' RR' ∧ (n = 0 → c = true) ∧ ((l = h ∧ LL = LL' ∧ RR = (a, k) :: (L' ++ RR') ∧ tT K N r (some a) L') ∨ (r = h ∧ RR = RR' ∧ LL = LL' ++ (L' ++ [(a, k)]) ∧ tT K N l (some a) L'))
section
variable {K : Nat → Nat → Nat} {a : Nat → Nat}
theorem iAt.k {N N' : NM} {x : Nat} {v : Int32} (h : iAt K N x v) (hk : k22 N N') : iAt K N' x v := by
  rcases h with h | h
  · exact Or.inl h
  · exact Or.inr (hk _ _ h)
theorem tS.fr {N N' : NM} : ∀ (n : Nat) (h q : Option Nat) (L : List (Nat × Int)), tS K N n h q L → (∀ z ∈ ad L, N' z = N z) → k22 N N' → tS K N' n h q L
  | 0, h, q, L, hS, hz, hk => hS
  | n + 1, h, q, L, hS, hz, hk => by
    rcases hS with e | ⟨a, ko, vo, k, c, l, r, L1, L2, e1, e2, e3, e4, e5, e6, e7⟩
    · exact Or.inl e
    · subst e5
      rw [ad_app, ad_cons] at hz
      refine Or.inr ⟨a, ko, vo, k, c, l, r, L1, L2, e1, ?_, e3.k hk, e4, rfl, tS.fr n l _ L1 e6 (fun z h => hz z (List.mem_append_left _ h)) hk, tS.fr n r _ L2 e7 (fun z h => hz z (List.mem_append_right _ (List.mem_cons_of_mem _ h))) hk⟩
      rw [hz a (List.mem_append_right _ (List.mem_cons_self ..))]
      exact e2
theorem tS.mono {N : NM} : ∀ (n n' : Nat) (h q : Option Nat) (L : List (Nat × Int)), tS K N n h q L → n ≤ n' → tS K N n' h q L
  | 0, 0, h, q, L, hS, _ => hS
  | 0, n' + 1, h, q, L, hS, _ => Or.inl hS
  | n + 1, 0, h, q, L, hS, hn => absurd hn (by omega)
  | n + 1, n' + 1, h, q, L, hS, hn => by
    rcases hS with e | ⟨a, ko, vo, k, c, l, r, L1, L2, e1, e2, e3, e4, e5, e6, e7⟩
    · exact Or.inl e
    · exact Or.inr ⟨a, ko, vo, k, c, l, r, L1, L2, e1, e2, e3, e4, e5, tS.mono n n' _ _ _ e6 (by omega), tS.mono n n' _ _ _ e7 (by omega)⟩
theorem tT.nil {N : NM} {q : Option Nat} : tT K N none q [] := ⟨0, rfl, rfl⟩
theorem tT.none {N : NM} {q : Option Nat} {L : List (Nat × Int)} (h : tT K N none q L) : L = [] := by
  obtain ⟨n, h⟩ := h
  cases n with
  | zero => exact h.2
  | succ n =>
    rcases h with e | ⟨a, ko, vo, k, c, l, r, L1, L2, e1, -⟩
    · exact e.2
    · cases e1
theorem tT.mk {N : NM} {a ko : Nat} {vo l r q : Option Nat} {k : Int} {c : Bool} {L1 L2 : List (Nat × Int)} (h : N a = some (nOd ko vo l r q c)) (hk : iAt K N ko (iI (-k))) (hb : -3000 ≤ k ∧ k ≤ 3000) (h1 : tT K N l (some a) L1) (h2 : tT K N r (some a) L2) : tT K N (some a) q (L1 ++ (a, k) :: L2) := by
  obtain ⟨n1, h1⟩ := h1
  obtain ⟨n2, h2⟩ := h2
  exact ⟨max n1 n2 + 1, Or.inr ⟨a, ko, vo, k, c, l, r, L1, L2, rfl, h, hk, hb, rfl, h1.mono _ _ _ _ _ (by omega), h2.mono _ _ _ _ _ (by omega)⟩⟩
theorem tT.get {N : NM} {a : Nat} {q : Option Nat} {L : List (Nat × Int)} (h : tT K N (some a) q L) : ∃ ko vo k c l r L1 L2, N a = some (nOd ko vo l r q c) ∧ iAt K N ko (iI (-k)) ∧ (-3000 ≤ k ∧ k ≤ 3000) ∧ L = L1 ++ (a, k) :: L2 ∧ tT K N l (some a) L1 ∧ tT K N r (some a) L2 := by
  obtain ⟨n, h⟩ := h
  cases n with
  | zero => cases h.1
  | succ n =>
    rcases h with e | ⟨a', ko, vo, k, c, l, r, L1, L2, e1, e2, e3, e4, e5, e6, e7⟩
    · cases e.1
    · cases e1
      exact ⟨ko, vo, k, c, l, r, L1, L2, e2, e3, e4, e5, ⟨n, e6⟩, ⟨n, e7⟩⟩
theorem tT.fr {N N' : NM} {h q : Option Nat} {L : List (Nat × Int)} (hT : tT K N h q L) (hz : ∀ z ∈ ad L, N' z = N z) (hk : k22 N N') : tT K N' h q L := by
  obtain ⟨n, hT⟩ := hT
  exact ⟨n, hT.fr _ _ _ _ hz hk⟩
theorem tT.mem {N : NM} {a : Nat} {q : Option Nat} {L : List (Nat × Int)} (h : tT K N (some a) q L) : a ∈ ad L := by
  obtain ⟨ko, vo, k, c, l, r, L1, L2, e1, e2, e3, e4, e5, e6⟩ := h.get
  rw [e4, ad_app, ad_cons]
  exact List.mem_append_right _ (List.mem_cons_self ..)
theorem tC.fr {N N' : NM} {m cmp : Nat} : ∀ (n : Nat) (h q : Option Nat) (LL RR : List (Nat × Int)), tC K N m cmp n h q LL RR → (∀ z ∈ ad LL ++ ad RR, N' z = N z) → N' m = N m → k22 N N' → tC K N' m cmp n h q LL RR
  | 0, h, q, LL, RR, ⟨h1, h2, h3, s, md, h4⟩, hz, hm, hk => ⟨h1, h2, h3, s, md, by rw [hm]; exact h4⟩
  | n + 1, h, q, LL, RR, hC, hz, hm, hk => by
    obtain ⟨a, ko, vo, k, c, l, r, g, LL', RR', L', e1, e2, e3, e4, e5, e6, e7⟩ := hC
    rcases e7 with ⟨f1, f2, f3, f4⟩ | ⟨f1, f2, f3, f4⟩
    · subst f2 f3
      rw [ad_cons, ad_app] at hz
      refine ⟨a, ko, vo, k, c, l, r, g, LL, RR', L', e1, ?_, e3.k hk, e4, tC.fr n _ _ _ _ e5 (fun z h => hz z ?_) hm hk, e6, Or.inl ⟨f1, rfl, rfl, f4.fr (fun z h => hz z ?_) hk⟩⟩
      · rw [hz a (List.mem_append_right _ (List.mem_cons_self ..))]; exact e2
      · rcases List.mem_append.mp h with h | h
        · exact List.mem_append_left _ h
        · exact List.mem_append_right _ (List.mem_cons_of_mem _ (List.mem_append_right _ h))
      · exact List.mem_append_right _ (List.mem_cons_of_mem _ (List.mem_append_left _ h))
    · subst f2 f3
      rw [ad_app, ad_app, ad_cons] at hz
      have ha : a ∈ (ad LL' ++ (ad L' ++ (a, k).1 :: ad [])) ++ ad RR := List.mem_append_left _ (List.mem_append_right _ (List.mem_append_right _ (List.mem_cons_self ..)))
      refine ⟨a, ko, vo, k, c, l, r, g, LL', RR, L', e1, ?_, e3.k hk, e4, tC.fr n _ _ _ _ e5 (fun z h => hz z ?_) hm hk, e6, Or.inr ⟨f1, rfl, rfl, f4.fr (fun z h => hz z ?_) hk⟩⟩
      · rw [hz a ha]; exact e2
      · rcases List.mem_append.mp h with h | h
        · exact List.mem_append_left _ (List.mem_append_left _ h)
        · exact List.mem_append_right _ h
      · exact List.mem_append_left _ (List.mem_append_right _ (List.mem_append_left _ h))
/-- the whole tree -/
theorem tC.plug {N : NM} {m cmp : Nat} : ∀ (n : Nat) (h q : Option Nat) (LL RR L : List (Nat × Int)), tC K N m cmp n h q LL RR → tT K N h q L → ∃ rt s md, N m = some (oMp cmp rt s md) ∧ tT K N rt none (LL ++ (L ++ RR)) ∧ (n = 0 → rt = h) ∧ (n ≠ 0 → ∃ g ko vo l r, rt = some g ∧ N g = some (nOd ko vo l r none true))
  | 0, h, q, LL, RR, L, ⟨h1, h2, h3, s, md, h4⟩, hT => by
    subst h1 h2 h3
    exact ⟨h, s, md, h4, by rw [List.append_nil]; exact hT, fun _ => rfl, fun c => absurd rfl c⟩
  | n + 1, h, q, LL, RR, L, hC, hT => by
    obtain ⟨a, ko, vo, k, c, l, r, g, LL', RR', L', e1, e2, e3, e4, e5, e6, e7⟩ := hC
    subst e1
    rcases e7 with ⟨f1, f2, f3, f4⟩ | ⟨f1, f2, f3, f4⟩
    · subst f1 f2 f3
      obtain ⟨rt, s, md, r1, r2, r3, r4⟩ := tC.plug n _ _ _ _ _ e5 (tT.mk e2 e3 e4 hT f4)
      refine ⟨rt, s, md, r1, ?_, fun c => by omega, fun _ => ?_⟩
      · rw [List.append_assoc, List.cons_append] at r2; exact r2
      · by_cases n0 : n = 0
        · have hg : g = none := by rw [n0] at e5; exact e5.1
          rw [e6 n0, hg] at e2
          exact ⟨a, ko, vo, _, _, r3 n0, e2⟩
        · exact r4 n0
    · subst f1 f2 f3
      obtain ⟨rt, s, md, r1, r2, r3, r4⟩ := tC.plug n _ _ _ _ _ e5 (tT.mk e2 e3 e4 f4 hT)
      refine ⟨rt, s, md, r1, ?_, fun c => by omega, fun _ => ?_⟩
      · rw [List.append_assoc, List.cons_append] at r2
        rw [List.append_assoc, List.append_assoc]
        exact r2
      · by_cases n0 : n = 0
        · have hg : g = none := by rw [n0] at e5; exact e5.1
          rw [e6 n0, hg] at e2
          exact ⟨a, ko, vo, _, _, r3 n0, e2⟩
        · exact r4 n0
/-- a tree's root has another parent, another colour -/
theorem tT.re {N : NM} {a : Nat} {q : Option Nat} {L : List (Nat × Int)} (h : tT K N (some a) q L) (hn : (ad L).Nodup) : ∃ ko vo l r c, N a = some (nOd ko vo l r q c) ∧ ∀ (N' : NM) q' c', N' a = some (nOd ko vo l r q' c') → (∀ z ∈ ad L, z ≠ a → N' z = N z) → k22 N N' → tT K N' (some a) q' L := by
  obtain ⟨ko, vo, k, c, l, r, L1, L2, e1, e2, e3, e4, e5, e6⟩ := h.get
  subst e4
  rw [ad_app, ad_cons, List.nodup_append] at hn
  obtain ⟨n1, n2, n3⟩ := hn
  rw [List.nodup_cons] at n2
  refine ⟨ko, vo, l, r, c, e1, fun N' q' c' h1 h2 h3 => ?_⟩
  rw [ad_app, ad_cons] at h2
  refine tT.mk h1 (e2.k h3) e3 (e5.fr (fun z hz => h2 z (List.mem_append_left _ hz) (n3 z hz a (List.mem_cons_self ..))) h3) (e6.fr (fun z hz => h2 z (List.mem_append_right _ (List.mem_cons_of_mem _ hz)) (fun c => n2.1 (by rw [c] at hz; exact hz))) h3)
/-- what a root's place is, and what it is when another root stands there -/
abbrev hoP (N : NM) (m cmp a : Nat) (q : Option Nat) (CC : List Nat) (P : NM → Option Nat → Prop) : Prop :=
    (q = none ∧ ∃ s md, N m = some (oMp cmp (some a) s md) ∧ ∀ (N' : NM) b, N' m = some (oMp cmp b s md) → (∀ z ∈ CC, N' z = N z) → k22 N N' → P N' b) ∨
    (∃ w ko vo l r g c, q = some w ∧ w ∈ CC ∧ N w = some (nOd ko vo l r g c) ∧
      ((l = some a ∧ r ≠ some a ∧ ∀ (N' : NM) b, N' w = some (nOd ko vo b r g c) → (∀ z ∈ CC, z ≠ w → N' z = N z) → N' m = N m → k22 N N' → P N' b) ∨
       (r = some a ∧ l ≠ some a ∧ ∀ (N' : NM) b, N' w = some (nOd ko vo l b g c) → (∀ z ∈ CC, z ≠ w → N' z = N z) → N' m = N m → k22 N N' → P N' b)))
theorem tC.ho {N : NM} {m cmp n a : Nat} {q : Option Nat} {LL RR : List (Nat × Int)} (hC : tC K N m cmp n (some a) q LL RR) (hn : (ad LL ++ ad RR).Nodup) (hx : a ∉ ad LL ++ ad RR) : hoP N m cmp a q (ad LL ++ ad RR) (fun N' b => tC K N' m cmp n b q LL RR) := by
  cases n with
  | zero =>
    obtain ⟨h1, h2, h3, s, md, h4⟩ := hC
    exact Or.inl ⟨h1, s, md, h4, fun N' b hb _ _ => ⟨h1, h2, h3, s, md, hb⟩⟩
  | succ n =>
    obtain ⟨w, ko, vo, k, c, l, r, g, LL', RR', L', e1, e2, e3, e4, e5, e6, e7⟩ := hC
    refine Or.inr ⟨w, ko, vo, l, r, g, c, e1, ?_, e2, ?_⟩
    · rcases e7 with ⟨f1, f2, f3, f4⟩ | ⟨f1, f2, f3, f4⟩
      · rw [f3, ad_cons]; exact List.mem_append_right _ (List.mem_cons_self ..)
      · rw [f3, ad_app, ad_app, ad_cons]; exact List.mem_append_left _ (List.mem_append_right _ (List.mem_append_right _ (List.mem_cons_self ..)))
    · rcases e7 with ⟨f1, f2, f3, f4⟩ | ⟨f1, f2, f3, f4⟩
      · subst f2 f3
        rw [ad_cons, ad_app, List.nodup_append, List.nodup_cons, List.nodup_append] at hn
        obtain ⟨n1, ⟨n2, n3, n4, n5⟩, n6⟩ := hn
        rw [ad_cons, ad_app]
        refine Or.inl ⟨f1, fun c => ?_, fun N' b hb hz hm hk => ⟨w, ko, vo, k, c, _, r, g, LL, RR', L', e1, hb, e3.k hk, e4, e5.fr _ _ _ _ _ (fun z h => hz z ?_ ?_) hm hk, e6, Or.inl ⟨rfl, rfl, rfl, f4.fr (fun z h => hz z ?_ ?_) hk⟩⟩⟩
        · rw [c] at f4
          exact hx (by rw [ad_cons, ad_app]; exact List.mem_append_right _ (List.mem_cons_of_mem _ (List.mem_append_left _ f4.mem)))
        · rcases List.mem_append.mp h with h | h
          · exact List.mem_append_left _ h
          · exact List.mem_append_right _ (List.mem_cons_of_mem _ (List.mem_append_right _ h))
        · rcases List.mem_append.mp h with h | h
          · exact n6 z h w (List.mem_cons_self ..)
          · exact fun c => n2 (List.mem_append_right _ (by rw [c] at h; exact h))
        · exact List.mem_append_right _ (List.mem_cons_of_mem _ (List.mem_append_left _ h))
        · exact fun c => n2 (List.mem_append_left _ (by rw [c] at h; exact h))
      · subst f2 f3
        rw [ad_app, ad_app, ad_cons] at hn hx ⊢
        rw [List.nodup_append, List.nodup_append, List.nodup_append] at hn
        obtain ⟨⟨n1, ⟨n2, n3, n4⟩, n5⟩, n6, n7⟩ := hn
        refine Or.inr ⟨f1, fun c => ?_, fun N' b hb hz hm hk => ⟨w, ko, vo, k, c, l, _, g, LL', RR, L', e1, hb, e3.k hk, e4, e5.fr _ _ _ _ _ (fun z h => hz z ?_ ?_) hm hk, e6, Or.inr ⟨rfl, rfl, rfl, f4.fr (fun z h => hz z ?_ ?_) hk⟩⟩⟩
        · rw [c] at f4
          exact hx (List.mem_append_left _ (List.mem_append_right _ (List.mem_append_left _ f4.mem)))
        · rcases List.mem_append.mp h with h | h
          · exact List.mem_append_left _ (List.mem_append_left _ h)
          · exact List.mem_append_right _ h
        · rcases List.mem_append.mp h with h | h
          · exact n5 z h w (List.mem_append_right _ (List.mem_cons_self ..))
          · exact fun c => n7 w (List.mem_append_right _ (List.mem_append_right _ (List.mem_cons_self ..))) z h c.symm
        · exact List.mem_append_left _ (List.mem_append_right _ (List.mem_append_left _ h))
        · exact n4 z h w (List.mem_cons_self ..)
end
def on1 (a z : Nat) : Nat := if z = a then 1 else 0
theorem on1_s (a : Nat) : on1 a a = 1 := if_pos rfl
theorem cntP {X : List Nat} {z : Nat} (h : z ∈ X) : 1 ≤ X.count z := List.count_pos_iff.mpr h
theorem cnt0 {X : List Nat} {z : Nat} (h : z ∉ X) : X.count z = 0 := List.count_eq_zero.mpr h
theorem on1_0 {a z : Nat} (h : z ≠ a) : on1 a z = 0 := if_neg h
theorem ndc {X : List Nat} (h : ∀ z, X.count z ≤ 1) : X.Nodup := List.nodup_iff_count.mpr h
theorem cnt_cons (a z : Nat) (X : List Nat) : (a :: X).count z = on1 a z + X.count z := by
  rw [List.count_cons]
  by_cases e : z = a
  · subst e
    rw [if_pos (beq_self_eq_true z), on1_s]; omega
  · rw [if_neg (by rw [beq_iff_eq]; exact fun c => e c.symm), on1_0 e]; omega
theorem ad_cnt (L1 L2 : List (Nat × Int)) (a z : Nat) (k : Int) : (ad (L1 ++ (a, k) :: L2)).count z = on1 a z + (ad L1).count z + (ad L2).count z := by
  rw [ad_app, ad_cons, List.count_append, cnt_cons, show (a, k).fst = a from rfl]; omega
