set_option maxRecDepth 100000
set_option maxHeartbeats 4000000
section
variable {K : Nat → Nat → Nat}
def fxSLeft (K : Nat → Nat → Nat) (K5 : Nat → Option Nat → NM → Prop) (post : Unit → NM → Prop) (x0 : Nat) (x1 : Option Nat) (N : NM) : Prop :=
  wJ21_parentOf K (fun r155 N156 => wJ21_rightOf K (fun r157 N158 => ((x1 = r157) → (wJ21_parentOf K (fun r186 N187 => ∃ f191 f192 f193 f194 f195 f196 f197 f198 f199, N187 x0 = some (eO 19 [va_rf f191, va_rf f192, va_rf f193, va_rf f194, .int f195, .int f196, va_rf f197, va_rf f198, va_rf f199]) ∧ (wJ21_rotateLeft K (fun _ N189 => wJ21_fixAfterInsertion_118 K K5 post x0 r186 N189) N187 x0 r186)) N158 x1)) ∧ (¬ (x1 = r157) → (wJ21_fixAfterInsertion_118 K K5 post x0 x1 N158))) N156 r155) N x1
def fxBLeft (K : Nat → Nat → Nat) (K5 : Nat → Option Nat → NM → Prop) (post : Unit → NM → Prop) (x0 : Nat) (x1 : Option Nat) (N : NM) : Prop :=
  wJ21_parentOf K (fun r146 N147 => wJ21_parentOf K (fun r148 N149 => wJ21_rightOf K (fun r150 N151 => wJ21_colorOf K (fun r152 N153 => ((r152 = (0 : Int32)) → (wJ21_parentOf K (fun r200 N201 => wJ21_setColor K (fun _ N203 => wJ21_setColor K (fun _ N205 => wJ21_parentOf K (fun r206 N207 => wJ21_parentOf K (fun r208 N209 => wJ21_setColor K (fun _ N211 => wJ21_parentOf K (fun r212 N213 => wJ21_parentOf K (fun r214 N215 => wJ21_fixAfterInsertion_148 K K5 post x0 r214 N215) N213 r212) N211 x1) N209 r208 (0 : Int32)) N207 r206) N205 x1) N203 r150 (1 : Int32)) N201 r200 (1 : Int32)) N153 x1)) ∧ (¬ (r152 = (0 : Int32)) → fxSLeft K K5 post x0 x1 N153)) N151 r150) N149 r148) N147 r146) N x1
/-- the last turn -/
theorem t_fx118Left {K5 : Nat → Option Nat → NM → Prop} {post : Unit → NM → Prop} {N : NM} {m cmp n gg p x kog kop : Nat} {vog vop y i g2 : Option Nat} {cg cp : Bool} {LL RR Lx Li Ly : List (Nat × Int)} {kg kp : Int}
    (hC : tC K N m cmp n (some gg) g2 LL RR) (hg : N gg = some (nOd kog vog (some p) y g2 cg)) (hp : N p = some (nOd kop vop (some x) i (some gg) cp)) (ig : iAt K N kog (iI (-kg))) (bg : -3000 ≤ kg ∧ kg ≤ 3000) (ip : iAt K N kop (iI (-kp))) (bp : -3000 ≤ kp ∧ kp ≤ 3000)
    (tx : tT K N (some x) (some p) Lx) (ti : tT K N i (some p) Li) (ty : tT K N y (some gg) Ly) (hc : ∀ z, on1 m z + on1 p z + on1 gg z + (ad LL ++ ad RR).count z + (ad Lx).count z + (ad Li).count z + (ad Ly).count z ≤ 1)
    (ex : ∀ N' : NM, (∃ ko vo l r c, N' x = some (nOd ko vo l r (some p) c)) → (∃ ko vo l r q, N' p = some (nOd ko vo l r q true)) → tC K N' m cmp n (some p) g2 LL RR → tT K N' (some p) g2 (Lx ++ (p, kp) :: (Li ++ (gg, kg) :: Ly)) → k22 N N' → (∀ z, on1 m z + on1 p z + on1 gg z + (ad LL ++ ad RR).count z + (ad Lx).count z + (ad Li).count z + (ad Ly).count z = 0 → N' z = N z) → K5 m (some x) N') : wJ21_fixAfterInsertion_118 K K5 post m (some x) N := by
  obtain ⟨kox, vox, kx', cx', lx, rx, X1, X2, hx, -⟩ := tx.get
  have xm := tx.mem
  have gp : gg ≠ p := fun e => by have := hc p; rw [e] at this; have := on1_s p; omega
  have xp' : x ≠ p := fun e => by have := hc p; have := cntP xm; rw [e] at this; have := on1_s p; omega
  have xg : x ≠ gg := fun e => by have := hc gg; have := cntP xm; rw [e] at this; have := on1_s gg; omega
  have mg : m ≠ gg := fun e => by have := hc m; rw [← e] at this; have := on1_s m; omega
  have mp : m ≠ p := fun e => by have := hc m; rw [← e] at this; have := on1_s m; omega
  obtain ⟨rt, s, md, hm⟩ := hC.map
  unfold wJ21_fixAfterInsertion_118
  refine p_par hx (p_set true hp (fun N1 e1 => ?_))
  have x1 : N1 x = some (nOd kox vox lx rx (some p) cx') := at_ne e1 xp' hx
  have p1 : N1 p = some (nOd kop vop (some x) i (some gg) true) := at_up e1
  have g1 : N1 gg = some (nOd kog vog (some p) y g2 cg) := at_ne e1 gp hg
  refine p_par x1 (p_par p1 (p_set false g1 (fun N2 e2 => ?_)))
  have x2 : N2 x = some (nOd kox vox lx rx (some p) cx') := at_ne e2 xg x1
  have p2 : N2 p = some (nOd kop vop (some x) i (some gg) true) := at_ne e2 (Ne.symm gp) p1
  have g2' : N2 gg = some (nOd kog vog (some p) y g2 false) := at_up e2
  have m2 : N2 m = some (oMp cmp rt s md) := at_ne e2 mg (at_ne e1 mp hm)
  have k2 : k22 N N2 := by
    rw [e2]
    refine k22.up (fs := _) (i := 20) ?_ g1 (by decide)
    rw [e1]
    exact k22.up (k22.rf N) hp (by decide)
  have f2 : ∀ z, z ≠ p → z ≠ gg → N2 z = N z := fun z z1 z2 => by rw [e2, up_ne _ _ _ z2, e1, up_ne _ _ _ z1]
  have fo : ∀ z, 1 ≤ (ad LL ++ ad RR).count z + (ad Lx).count z + (ad Li).count z + (ad Ly).count z → N2 z = N z := fun z hz => f2 z (fun e => by have := hc z; rw [e] at this hz; have := on1_s p; omega) (fun e => by have := hc z; rw [e] at this hz; have := on1_s gg; omega)
  have hC2 := hC.fr _ _ _ _ _ (fun z hz => fo z (by have := cntP hz; omega)) (by rw [m2, hm]) k2
  have tx2 := tx.fr (fun z hz => fo z (by have := cntP hz; omega)) k2
  have ti2 := ti.fr (fun z hz => fo z (by have := cntP hz; omega)) k2
  have ty2 := ty.fr (fun z hz => fo z (by have := cntP hz; omega)) k2
  have gC : gg ∉ ad LL ++ ad RR := fun e => by have := hc gg; have := cntP e; have := on1_s gg; omega
  refine p_par x2 (p_par p2 ⟨_, _, _, _, _, _, _, _, _, m2, t_rotRight (hC2.ho (ndc (fun z => by have := hc z; omega)) gC) g2' p2 ty2 ti2 tx2 (fun z => by have := hc z; omega) (fun N' hC3 p3 g3 ty3 ti3 tx3 k3 fr3 => ?_)⟩)
  obtain ⟨kox', vox', kx'', cx'', lx', rx', X1', X2', hx', -⟩ := tx3.get
  refine ex N' ⟨_, _, _, _, _, hx'⟩ ⟨_, _, _, _, _, p3⟩ hC3 ?_ (k2.tr k3) (fun z hz => ?_)
  · exact tT.mk p3 (ip.k (k2.tr k3)) bp tx3 (tT.mk g3 (ig.k (k2.tr k3)) bg ti3 ty3)
  · rw [fr3 z (by omega)]
    exact f2 z (fun e => by rw [e] at hz; have := on1_s p; omega) (fun e => by rw [e] at hz; have := on1_s gg; omega)
theorem t_fxSLeft {K5 : Nat → Option Nat → NM → Prop} {post : Unit → NM → Prop} {N : NM} {m cmp n gg b a kog kob : Nat} {vog vob y sb g2 : Option Nat} {cg : Bool} {LL RR La L3 L4 Lb : List (Nat × Int)} {kg kb : Int}
    (hC : tC K N m cmp n (some gg) g2 LL RR) (hblk : n = 0 → cg = true) (hg : N gg = some (nOd kog vog (some b) y g2 cg)) (ig : iAt K N kog (iI (-kg))) (bg : -3000 ≤ kg ∧ kg ≤ 3000) (ib : iAt K N kob (iI (-kb))) (bb : -3000 ≤ kb ∧ kb ≤ 3000)
    (tA : tT K N (some a) (some b) La) (ts : tT K N sb (some b) L3) (ty : tT K N y (some gg) L4)
    (hdir : (N b = some (nOd kob vob (some a) sb (some gg) false) ∧ Lb = La ++ (b, kb) :: L3) ∨ (N b = some (nOd kob vob sb (some a) (some gg) false) ∧ Lb = L3 ++ (b, kb) :: La))
    (hc : ∀ z, on1 m z + on1 b z + on1 gg z + (ad LL ++ ad RR).count z + (ad La).count z + (ad L3).count z + (ad L4).count z ≤ 1)
    (ex : ∀ (N' : NM) x w, (∃ ko vo l r c, N' x = some (nOd ko vo l r (some w) c)) → (∃ ko vo l r q, N' w = some (nOd ko vo l r q true)) → tC K N' m cmp n (some w) g2 LL RR → tT K N' (some w) g2 (Lb ++ (gg, kg) :: L4) → k22 N N' → (∀ z, on1 m z + on1 b z + on1 gg z + (ad LL ++ ad RR).count z + (ad La).count z + (ad L3).count z + (ad L4).count z = 0 → N' z = N z) → K5 m (some x) N') : fxSLeft K K5 post m (some a) N := by
  obtain ⟨koa, voa, ka, ca, la, ra, X1, X2, ha, ia, ba, eLa, t1, t2⟩ := tA.get
  have am := tA.mem
  unfold fxSLeft
  rcases hdir with ⟨hb, eL⟩ | ⟨hb, eL⟩
  · have sa : some a ≠ sb := fun e => by
      rw [← e] at ts
      have := hc a; have := cntP am; have := cntP ts.mem; omega
    refine p_par ha (p_right hb (b_f sa ?_))
    refine t_fx118Left hC hg hb ig bg ib bb tA ts ty (fun z => by have := hc z; omega) (fun N' h1 h2 h3 h4 h5 h6 => ex N' a b h1 h2 h3 ?_ h5 (fun z hz => h6 z (by omega)))
    rw [eL]
    rw [List.append_assoc, List.cons_append]; exact h4
  · refine p_par ha (p_right hb (b_t rfl (p_par ha ?_)))
    obtain ⟨rt, s, md, hm⟩ := hC.map
    subst eLa
    have ha2 : a ≠ b := fun e => by have := hc a; have := cntP am; rw [← e] at *; have := on1_s a; omega
    have ab : b ≠ a := Ne.symm ha2
    have hcc : ∀ z, on1 m z + on1 a z + on1 b z + on1 gg z + (ad LL ++ ad RR).count z + (ad X1).count z + (ad X2).count z + (ad L3).count z + (ad L4).count z ≤ 1 := fun z => by
      have := hc z
      rw [ad_cnt] at this
      omega
    have bg' : b ≠ gg := fun e => by have := hcc b; rw [← e] at this; have := on1_s b; omega
    have ag : a ≠ gg := fun e => by have := hcc a; rw [← e] at this; have := on1_s a; omega
    have mg : m ≠ gg := fun e => by have := hcc m; rw [← e] at this; have := on1_s m; omega
    have yb : y ≠ some b := fun e => by
      rw [e] at ty
      have := hcc b; have := on1_s b; have := cntP ty.mem; omega
    have hP : hoP N m cmp b (some gg) (gg :: (ad L4 ++ (ad LL ++ ad RR))) (fun N' h => tC K N' m cmp n (some gg) g2 LL RR ∧ N' gg = some (nOd kog vog h y g2 cg) ∧ tT K N' y (some gg) L4) := by
      have go : ∀ (N' : NM) (h : Option Nat), N' gg = some (nOd kog vog h y g2 cg) → (∀ z ∈ gg :: (ad L4 ++ (ad LL ++ ad RR)), z ≠ gg → N' z = N z) → N' m = N m → k22 N N' → tC K N' m cmp n (some gg) g2 LL RR ∧ N' gg = some (nOd kog vog h y g2 cg) ∧ tT K N' y (some gg) L4 := fun N' h h1 h2 h3 h4 => by
        refine ⟨hC.fr _ _ _ _ _ (fun z hz => h2 z (List.mem_cons_of_mem _ (List.mem_append_right _ hz)) (fun e => ?_)) h3 h4, h1, ty.fr (fun z hz => h2 z (List.mem_cons_of_mem _ (List.mem_append_left _ hz)) (fun e => ?_)) h4⟩
        · have := hcc z; have := cntP hz; rw [e] at *; have := on1_s gg; omega
        · have := hcc z; have := cntP hz; rw [e] at *; have := on1_s gg; omega
      exact Or.inr ⟨gg, kog, vog, _, _, g2, cg, rfl, List.mem_cons_self .., hg, Or.inl ⟨rfl, yb, go⟩⟩
    have hcr : ∀ z, on1 m z + on1 b z + on1 a z + (gg :: (ad L4 ++ (ad LL ++ ad RR))).count z + (ad L3).count z + (ad X1).count z + (ad X2).count z ≤ 1 := fun z => by
      have := hcc z
      rw [cnt_cons, List.count_append (l₁ := ad L4)]
      omega
    refine ⟨_, _, _, _, _, _, _, _, _, hm, t_rotLeft hP hb ha ts t1 t2 hcr (fun N' hP' ha' hb' ts' t1' t2' k' fr' => ?_)⟩
    obtain ⟨hC', hg', ty'⟩ := hP'
    have frc : ∀ z, on1 m z + on1 a z + on1 b z + on1 gg z + (ad LL ++ ad RR).count z + (ad X1).count z + (ad X2).count z + (ad L3).count z + (ad L4).count z = 0 → N' z = N z := fun z hz => fr' z (by
      rw [cnt_cons, List.count_append (l₁ := ad L4)]
      omega)
    have tb : tT K N' (some b) (some a) (L3 ++ (b, kb) :: X1) := tT.mk hb' (ib.k k') bb ts' t1'
    have hcx : ∀ z, (ad (L3 ++ (b, kb) :: X1)).count z = on1 b z + (ad L3).count z + (ad X1).count z := fun z => by
      rw [ad_cnt] <;> omega
    refine t_fx118Left hC' hg' ha' (ig.k k') bg (ia.k k') ba tb t2' ty' (fun z => by have := hcc z; rw [hcx z]; omega) (fun N2 h1 h2 h3 h4 h5 h6 => ex N2 b a h1 h2 h3 ?_ (k'.tr h5) (fun z hz => ?_))
    · rw [eL]
      simp only [List.append_assoc, List.cons_append] at h4 ⊢
      exact h4
    · have hz' := hz
      rw [ad_cnt] at hz'
      rw [h6 z (by rw [hcx z]; omega)]
      exact frc z (by omega)
theorem t_fxBLeft {K5 : Nat → Option Nat → NM → Prop} {post : Unit → NM → Prop} {N : NM} {m cmp n gg b a kog kob : Nat} {vog vob y sb g2 : Option Nat} {cg : Bool} {LL RR La L3 L4 Lb : List (Nat × Int)} {kg kb : Int}
    (hC : tC K N m cmp n (some gg) g2 LL RR) (hblk : n = 0 → cg = true) (hg : N gg = some (nOd kog vog (some b) y g2 cg)) (ig : iAt K N kog (iI (-kg))) (bg : -3000 ≤ kg ∧ kg ≤ 3000) (ib : iAt K N kob (iI (-kb))) (bb : -3000 ≤ kb ∧ kb ≤ 3000)
    (tA : tT K N (some a) (some b) La) (ts : tT K N sb (some b) L3) (ty : tT K N y (some gg) L4)
    (hdir : (N b = some (nOd kob vob (some a) sb (some gg) false) ∧ Lb = La ++ (b, kb) :: L3) ∨ (N b = some (nOd kob vob sb (some a) (some gg) false) ∧ Lb = L3 ++ (b, kb) :: La))
    (hc : ∀ z, on1 m z + on1 b z + on1 gg z + (ad LL ++ ad RR).count z + (ad La).count z + (ad L3).count z + (ad L4).count z ≤ 1)
    (nx : ∀ N' : NM, tC K N' m cmp n (some gg) g2 LL RR → tT K N' (some gg) g2 (Lb ++ (gg, kg) :: L4) → k22 N N' → (∀ z, on1 m z + on1 b z + on1 gg z + (ad LL ++ ad RR).count z + (ad La).count z + (ad L3).count z + (ad L4).count z = 0 → N' z = N z) → K5 m (some gg) N')
    (ex : ∀ (N' : NM) x w, (∃ ko vo l r c, N' x = some (nOd ko vo l r (some w) c)) → (∃ ko vo l r q, N' w = some (nOd ko vo l r q true)) → tC K N' m cmp n (some w) g2 LL RR → tT K N' (some w) g2 (Lb ++ (gg, kg) :: L4) → k22 N N' → (∀ z, on1 m z + on1 b z + on1 gg z + (ad LL ++ ad RR).count z + (ad La).count z + (ad L3).count z + (ad L4).count z = 0 → N' z = N z) → K5 m (some x) N') : fxBLeft K K5 post m (some a) N := by
  have sec := t_fxSLeft (post := post) hC hblk hg ig bg ib bb tA ts ty hdir hc ex
  obtain ⟨koa, voa, ka, ca, la, ra, X1, X2, ha, -⟩ := tA.get
  have am := tA.mem
  obtain ⟨lb, rb, hb⟩ : ∃ lb rb, N b = some (nOd kob vob lb rb (some gg) false) := by
    rcases hdir with ⟨hb, -⟩ | ⟨hb, -⟩ <;> exact ⟨_, _, hb⟩
  unfold fxBLeft
  refine p_par ha (p_par hb (p_right hg ?_))
  cases y with
  | none => exact p_col0 (b_f (by decide) sec)
  | some d =>
    obtain ⟨kd, vd, ld, rd, cd, hd, hre⟩ := ty.re (ndc (fun z => by have := hc z; omega))
    have dm := ty.mem
    have gb : gg ≠ b := fun e => by have := hc b; rw [e] at this; have := on1_s b; omega
    have ab : a ≠ b := fun e => by have := hc b; have := cntP am; rw [e] at this; have := on1_s b; omega
    have ag : a ≠ gg := fun e => by have := hc gg; have := cntP am; rw [e] at this; have := on1_s gg; omega
    have db : d ≠ b := fun e => by have := hc b; have := cntP dm; rw [e] at this; have := on1_s b; omega
    have dg : d ≠ gg := fun e => by have := hc gg; have := cntP dm; rw [e] at this; have := on1_s gg; omega
    have da : a ≠ d := fun e => by have := hc a; have := cntP am; rw [← e] at dm; have := cntP dm; omega
    have mg : m ≠ gg := fun e => by have := hc m; rw [← e] at this; have := on1_s m; omega
    have mb : m ≠ b := fun e => by have := hc m; rw [← e] at this; have := on1_s m; omega
    have mdd : m ≠ d := fun e => by have := hc m; rw [← e] at dm; have := cntP dm; have := on1_s m; omega
    refine p_col hd ?_
    cases cd with
    | true => exact b_f (by decide) sec
    | false =>
      refine b_t rfl (p_par ha (p_set true hb (fun N1 e1 => ?_)))
      have a1 := at_ne e1 ab ha
      have b1 : N1 b = some (nOd kob vob lb rb (some gg) true) := at_up e1
      have g1 := at_ne e1 gb hg
      have d1 := at_ne e1 db hd
      refine p_set true d1 (fun N2 e2 => ?_)
      have a2 := at_ne e2 da a1
      have b2 := at_ne e2 (Ne.symm db) b1
      have g2' := at_ne e2 (Ne.symm dg) g1
      refine p_par a2 (p_par b2 (p_set false g2' (fun N3 e3 => ?_)))
      have a3 := at_ne e3 ag a2
      have b3 := at_ne e3 (Ne.symm gb) b2
      have d3 : N3 d = some (nOd kd vd ld rd (some gg) true) := at_ne e3 dg (at_up e2)
      have g3 : N3 gg = some (nOd kog vog (some b) (some d) g2 false) := at_up e3
      have k3 : k22 N N3 := by
        rw [e3]
        refine k22.up (fs := _) (i := 20) ?_ g2' (by decide)
        rw [e2]
        refine k22.up (fs := _) (i := 20) ?_ d1 (by decide)
        rw [e1]
        exact k22.up (k22.rf N) hb (by decide)
      have f3 : ∀ z, z ≠ b → z ≠ gg → z ≠ d → N3 z = N z := fun z z1 z2 z3 => by rw [e3, up_ne _ _ _ z2, e2, up_ne _ _ _ z3, e1, up_ne _ _ _ z1]
      have nb : ∀ z, 1 ≤ (ad LL ++ ad RR).count z + (ad La).count z + (ad L3).count z + (ad L4).count z → z ≠ b ∧ z ≠ gg := fun z hz => ⟨fun e => by have := hc z; rw [e] at this hz; have := on1_s b; omega, fun e => by have := hc z; rw [e] at this hz; have := on1_s gg; omega⟩
      have nd : ∀ z, 1 ≤ (ad LL ++ ad RR).count z + (ad La).count z + (ad L3).count z → z ≠ d := fun z hz e => by have := hc z; rw [e] at this hz; have := cntP dm; omega
      have fo : ∀ z, 1 ≤ (ad LL ++ ad RR).count z + (ad La).count z + (ad L3).count z → N3 z = N z := fun z hz => f3 z (nb z (by omega)).1 (nb z (by omega)).2 (nd z hz)
      refine p_par a3 (p_par b3 ?_)
      refine nx N3 (hC.fr _ _ _ _ _ (fun z hz => fo z (by have := cntP hz; omega)) (f3 m mb mg mdd) k3) ?_ k3 (fun z hz => ?_)
      · have tA3 := tA.fr (fun z hz => fo z (by have := cntP hz; omega)) k3
        have ts3 := ts.fr (fun z hz => fo z (by have := cntP hz; omega)) k3
        have ty3 := hre N3 (some gg) true d3 (fun z hz zd => f3 z (nb z (by have := cntP hz; omega)).1 (nb z (by have := cntP hz; omega)).2 zd) k3
        have tb3 : tT K N3 (some b) (some gg) Lb := by
          rcases hdir with ⟨hb', eL⟩ | ⟨hb', eL⟩
          · rw [hb] at hb'
            have : N3 b = some (nOd kob vob (some a) sb (some gg) true) := by
              have e := Option.some.inj hb'
              simp only [Sum.inr.injEq, Prod.mk.injEq, List.cons.injEq, true_and, and_true] at e
              rw [b3]
              show some (eO 20 [_, _, va_rf lb, va_rf rb, _, _]) = _
              rw [e.1, e.2]
            rw [eL]
            exact tT.mk this (ib.k k3) bb tA3 ts3
          · rw [hb] at hb'
            have : N3 b = some (nOd kob vob sb (some a) (some gg) true) := by
              have e := Option.some.inj hb'
              simp only [Sum.inr.injEq, Prod.mk.injEq, List.cons.injEq, true_and, and_true] at e
              rw [b3]
              show some (eO 20 [_, _, va_rf lb, va_rf rb, _, _]) = _
              rw [e.1, e.2]
            rw [eL]
            exact tT.mk this (ib.k k3) bb ts3 tA3
        exact tT.mk g3 (ig.k k3) bg tb3 ty3
      · refine f3 z (fun e => ?_) (fun e => ?_) (fun e => ?_)
        · rw [e] at hz; have := on1_s b; omega
        · rw [e] at hz; have := on1_s gg; omega
        · rw [e] at hz; have := cntP dm; omega
end
section
variable {K : Nat → Nat → Nat}
def fxSRight (K : Nat → Nat → Nat) (K5 : Nat → Option Nat → NM → Prop) (post : Unit → NM → Prop) (x0 : Nat) (x1 : Option Nat) (N : NM) : Prop :=
  wJ21_parentOf K (fun r155 N156 => wJ21_leftOf K (fun r157 N158 => ((x1 = r157) → (wJ21_parentOf K (fun r186 N187 => ∃ f191 f192 f193 f194 f195 f196 f197 f198 f199, N187 x0 = some (eO 19 [va_rf f191, va_rf f192, va_rf f193, va_rf f194, .int f195, .int f196, va_rf f197, va_rf f198, va_rf f199]) ∧ (wJ21_rotateRight K (fun _ N189 => wJ21_fixAfterInsertion_225 K K5 post x0 r186 N189) N187 x0 r186)) N158 x1)) ∧ (¬ (x1 = r157) → (wJ21_fixAfterInsertion_225 K K5 post x0 x1 N158))) N156 r155) N x1
def fxBRight (K : Nat → Nat → Nat) (K5 : Nat → Option Nat → NM → Prop) (post : Unit → NM → Prop) (x0 : Nat) (x1 : Option Nat) (N : NM) : Prop :=
  wJ21_parentOf K (fun r146 N147 => wJ21_parentOf K (fun r148 N149 => wJ21_leftOf K (fun r150 N151 => wJ21_colorOf K (fun r152 N153 => ((r152 = (0 : Int32)) → (wJ21_parentOf K (fun r200 N201 => wJ21_setColor K (fun _ N203 => wJ21_setColor K (fun _ N205 => wJ21_parentOf K (fun r206 N207 => wJ21_parentOf K (fun r208 N209 => wJ21_setColor K (fun _ N211 => wJ21_parentOf K (fun r212 N213 => wJ21_parentOf K (fun r214 N215 => wJ21_fixAfterInsertion_255 K K5 post x0 r214 N215) N213 r212) N211 x1) N209 r208 (0 : Int32)) N207 r206) N205 x1) N203 r150 (1 : Int32)) N201 r200 (1 : Int32)) N153 x1)) ∧ (¬ (r152 = (0 : Int32)) → fxSRight K K5 post x0 x1 N153)) N151 r150) N149 r148) N147 r146) N x1
/-- the last turn -/
theorem t_fx118Right {K5 : Nat → Option Nat → NM → Prop} {post : Unit → NM → Prop} {N : NM} {m cmp n gg p x kog kop : Nat} {vog vop y i g2 : Option Nat} {cg cp : Bool} {LL RR Lx Li Ly : List (Nat × Int)} {kg kp : Int}
    (hC : tC K N m cmp n (some gg) g2 LL RR) (hg : N gg = some (nOd kog vog y (some p) g2 cg)) (hp : N p = some (nOd kop vop i (some x) (some gg) cp)) (ig : iAt K N kog (iI (-kg))) (bg : -3000 ≤ kg ∧ kg ≤ 3000) (ip : iAt K N kop (iI (-kp))) (bp : -3000 ≤ kp ∧ kp ≤ 3000)
    (tx : tT K N (some x) (some p) Lx) (ti : tT K N i (some p) Li) (ty : tT K N y (some gg) Ly) (hc : ∀ z, on1 m z + on1 p z + on1 gg z + (ad LL ++ ad RR).count z + (ad Lx).count z + (ad Li).count z + (ad Ly).count z ≤ 1)
    (ex : ∀ N' : NM, (∃ ko vo l r c, N' x = some (nOd ko vo l r (some p) c)) → (∃ ko vo l r q, N' p = some (nOd ko vo l r q true)) → tC K N' m cmp n (some p) g2 LL RR → tT K N' (some p) g2 ((Ly ++ (gg, kg) :: Li) ++ (p, kp) :: Lx) → k22 N N' → (∀ z, on1 m z + on1 p z + on1 gg z + (ad LL ++ ad RR).count z + (ad Lx).count z + (ad Li).count z + (ad Ly).count z = 0 → N' z = N z) → K5 m (some x) N') : wJ21_fixAfterInsertion_225 K K5 post m (some x) N := by
  obtain ⟨kox, vox, kx', cx', lx, rx, X1, X2, hx, -⟩ := tx.get
  have xm := tx.mem
  have gp : gg ≠ p := fun e => by have := hc p; rw [e] at this; have := on1_s p; omega
  have xp' : x ≠ p := fun e => by have := hc p; have := cntP xm; rw [e] at this; have := on1_s p; omega
  have xg : x ≠ gg := fun e => by have := hc gg; have := cntP xm; rw [e] at this; have := on1_s gg; omega
  have mg : m ≠ gg := fun e => by have := hc m; rw [← e] at this; have := on1_s m; omega
  have mp : m ≠ p := fun e => by have := hc m; rw [← e] at this; have := on1_s m; omega
  obtain ⟨rt, s, md, hm⟩ := hC.map
  unfold wJ21_fixAfterInsertion_225
  refine p_par hx (p_set true hp (fun N1 e1 => ?_))
  have x1 : N1 x = some (nOd kox vox lx rx (some p) cx') := at_ne e1 xp' hx
  have p1 : N1 p = some (nOd kop vop i (some x) (some gg) true) := at_up e1
  have g1 : N1 gg = some (nOd kog vog y (some p) g2 cg) := at_ne e1 gp hg
  refine p_par x1 (p_par p1 (p_set false g1 (fun N2 e2 => ?_)))
  have x2 : N2 x = some (nOd kox vox lx rx (some p) cx') := at_ne e2 xg x1
  have p2 : N2 p = some (nOd kop vop i (some x) (some gg) true) := at_ne e2 (Ne.symm gp) p1
  have g2' : N2 gg = some (nOd kog vog y (some p) g2 false) := at_up e2
  have m2 : N2 m = some (oMp cmp rt s md) := at_ne e2 mg (at_ne e1 mp hm)
  have k2 : k22 N N2 := by
    rw [e2]
    refine k22.up (fs := _) (i := 20) ?_ g1 (by decide)
    rw [e1]
    exact k22.up (k22.rf N) hp (by decide)
  have f2 : ∀ z, z ≠ p → z ≠ gg → N2 z = N z := fun z z1 z2 => by rw [e2, up_ne _ _ _ z2, e1, up_ne _ _ _ z1]
  have fo : ∀ z, 1 ≤ (ad LL ++ ad RR).count z + (ad Lx).count z + (ad Li).count z + (ad Ly).count z → N2 z = N z := fun z hz => f2 z (fun e => by have := hc z; rw [e] at this hz; have := on1_s p; omega) (fun e => by have := hc z; rw [e] at this hz; have := on1_s gg; omega)
  have hC2 := hC.fr _ _ _ _ _ (fun z hz => fo z (by have := cntP hz; omega)) (by rw [m2, hm]) k2
  have tx2 := tx.fr (fun z hz => fo z (by have := cntP hz; omega)) k2
  have ti2 := ti.fr (fun z hz => fo z (by have := cntP hz; omega)) k2
  have ty2 := ty.fr (fun z hz => fo z (by have := cntP hz; omega)) k2
  have gC : gg ∉ ad LL ++ ad RR := fun e => by have := hc gg; have := cntP e; have := on1_s gg; omega
  refine p_par x2 (p_par p2 ⟨_, _, _, _, _, _, _, _, _, m2, t_rotLeft (hC2.ho (ndc (fun z => by have := hc z; omega)) gC) g2' p2 ty2 ti2 tx2 (fun z => by have := hc z; omega) (fun N' hC3 p3 g3 ty3 ti3 tx3 k3 fr3 => ?_)⟩)
  obtain ⟨kox', vox', kx'', cx'', lx', rx', X1', X2', hx', -⟩ := tx3.get
  refine ex N' ⟨_, _, _, _, _, hx'⟩ ⟨_, _, _, _, _, p3⟩ hC3 ?_ (k2.tr k3) (fun z hz => ?_)
  · exact tT.mk p3 (ip.k (k2.tr k3)) bp (tT.mk g3 (ig.k (k2.tr k3)) bg ty3 ti3) tx3
  · rw [fr3 z (by omega)]
    exact f2 z (fun e => by rw [e] at hz; have := on1_s p; omega) (fun e => by rw [e] at hz; have := on1_s gg; omega)
theorem t_fxSRight {K5 : Nat → Option Nat → NM → Prop} {post : Unit → NM → Prop} {N : NM} {m cmp n gg b a kog kob : Nat} {vog vob y sb g2 : Option Nat} {cg : Bool} {LL RR La L3 L4 Lb : List (Nat × Int)} {kg kb : Int}
    (hC : tC K N m cmp n (some gg) g2 LL RR) (hblk : n = 0 → cg = true) (hg : N gg = some (nOd kog vog y (some b) g2 cg)) (ig : iAt K N kog (iI (-kg))) (bg : -3000 ≤ kg ∧ kg ≤ 3000) (ib : iAt K N kob (iI (-kb))) (bb : -3000 ≤ kb ∧ kb ≤ 3000)
    (tA : tT K N (some a) (some b) La) (ts : tT K N sb (some b) L3) (ty : tT K N y (some gg) L4)
    (hdir : (N b = some (nOd kob vob sb (some a) (some gg) false) ∧ Lb = L3 ++ (b, kb) :: La) ∨ (N b = some (nOd kob vob (some a) sb (some gg) false) ∧ Lb = La ++ (b, kb) :: L3))
    (hc : ∀ z, on1 m z + on1 b z + on1 gg z + (ad LL ++ ad RR).count z + (ad La).count z + (ad L3).count z + (ad L4).count z ≤ 1)
    (ex : ∀ (N' : NM) x w, (∃ ko vo l r c, N' x = some (nOd ko vo l r (some w) c)) → (∃ ko vo l r q, N' w = some (nOd ko vo l r q true)) → tC K N' m cmp n (some w) g2 LL RR → tT K N' (some w) g2 (L4 ++ (gg, kg) :: Lb) → k22 N N' → (∀ z, on1 m z + on1 b z + on1 gg z + (ad LL ++ ad RR).count z + (ad La).count z + (ad L3).count z + (ad L4).count z = 0 → N' z = N z) → K5 m (some x) N') : fxSRight K K5 post m (some a) N := by
  obtain ⟨koa, voa, ka, ca, la, ra, X1, X2, ha, ia, ba, eLa, t1, t2⟩ := tA.get
  have am := tA.mem
  unfold fxSRight
  rcases hdir with ⟨hb, eL⟩ | ⟨hb, eL⟩
  · have sa : some a ≠ sb := fun e => by
      rw [← e] at ts
      have := hc a; have := cntP am; have := cntP ts.mem; omega
    refine p_par ha (p_left hb (b_f sa ?_))
    refine t_fx118Right hC hg hb ig bg ib bb tA ts ty (fun z => by have := hc z; omega) (fun N' h1 h2 h3 h4 h5 h6 => ex N' a b h1 h2 h3 ?_ h5 (fun z hz => h6 z (by omega)))
    rw [eL]
    rw [List.append_assoc, List.cons_append] at h4; exact h4
  · refine p_par ha (p_left hb (b_t rfl (p_par ha ?_)))
    obtain ⟨rt, s, md, hm⟩ := hC.map
    subst eLa
    have ha2 : a ≠ b := fun e => by have := hc a; have := cntP am; rw [← e] at *; have := on1_s a; omega
    have ab : b ≠ a := Ne.symm ha2
    have hcc : ∀ z, on1 m z + on1 a z + on1 b z + on1 gg z + (ad LL ++ ad RR).count z + (ad X1).count z + (ad X2).count z + (ad L3).count z + (ad L4).count z ≤ 1 := fun z => by
      have := hc z
      rw [ad_cnt] at this
      omega
    have bg' : b ≠ gg := fun e => by have := hcc b; rw [← e] at this; have := on1_s b; omega
    have ag : a ≠ gg := fun e => by have := hcc a; rw [← e] at this; have := on1_s a; omega
    have mg : m ≠ gg := fun e => by have := hcc m; rw [← e] at this; have := on1_s m; omega
    have yb : y ≠ some b := fun e => by
      rw [e] at ty
      have := hcc b; have := on1_s b; have := cntP ty.mem; omega
    have hP : hoP N m cmp b (some gg) (gg :: (ad L4 ++ (ad LL ++ ad RR))) (fun N' h => tC K N' m cmp n (some gg) g2 LL RR ∧ N' gg = some (nOd kog vog y h g2 cg) ∧ tT K N' y (some gg) L4) := by
      have go : ∀ (N' : NM) (h : Option Nat), N' gg = some (nOd kog vog y h g2 cg) → (∀ z ∈ gg :: (ad L4 ++ (ad LL ++ ad RR)), z ≠ gg → N' z = N z) → N' m = N m → k22 N N' → tC K N' m cmp n (some gg) g2 LL RR ∧ N' gg = some (nOd kog vog y h g2 cg) ∧ tT K N' y (some gg) L4 := fun N' h h1 h2 h3 h4 => by
        refine ⟨hC.fr _ _ _ _ _ (fun z hz => h2 z (List.mem_cons_of_mem _ (List.mem_append_right _ hz)) (fun e => ?_)) h3 h4, h1, ty.fr (fun z hz => h2 z (List.mem_cons_of_mem _ (List.mem_append_left _ hz)) (fun e => ?_)) h4⟩
        · have := hcc z; have := cntP hz; rw [e] at *; have := on1_s gg; omega
        · have := hcc z; have := cntP hz; rw [e] at *; have := on1_s gg; omega
      exact Or.inr ⟨gg, kog, vog, _, _, g2, cg, rfl, List.mem_cons_self .., hg, Or.inr ⟨rfl, yb, go⟩⟩
    have hcr : ∀ z, on1 m z + on1 b z + on1 a z + (gg :: (ad L4 ++ (ad LL ++ ad RR))).count z + (ad L3).count z + (ad X2).count z + (ad X1).count z ≤ 1 := fun z => by
      have := hcc z
      rw [cnt_cons, List.count_append (l₁ := ad L4)]
      omega
    refine ⟨_, _, _, _, _, _, _, _, _, hm, t_rotRight hP hb ha ts t2 t1 hcr (fun N' hP' ha' hb' ts' t2' t1' k' fr' => ?_)⟩
    obtain ⟨hC', hg', ty'⟩ := hP'
    have frc : ∀ z, on1 m z + on1 a z + on1 b z + on1 gg z + (ad LL ++ ad RR).count z + (ad X1).count z + (ad X2).count z + (ad L3).count z + (ad L4).count z = 0 → N' z = N z := fun z hz => fr' z (by
      rw [cnt_cons, List.count_append (l₁ := ad L4)]
      omega)
    have tb : tT K N' (some b) (some a) (X2 ++ (b, kb) :: L3) := tT.mk hb' (ib.k k') bb t2' ts'
    have hcx : ∀ z, (ad (X2 ++ (b, kb) :: L3)).count z = on1 b z + (ad L3).count z + (ad X2).count z := fun z => by
      rw [ad_cnt] <;> omega
    refine t_fx118Right hC' hg' ha' (ig.k k') bg (ia.k k') ba tb t1' ty' (fun z => by have := hcc z; rw [hcx z]; omega) (fun N2 h1 h2 h3 h4 h5 h6 => ex N2 b a h1 h2 h3 ?_ (k'.tr h5) (fun z hz => ?_))
    · rw [eL]
      simp only [List.append_assoc, List.cons_append] at h4 ⊢
      exact h4
    · have hz' := hz
      rw [ad_cnt] at hz'
      rw [h6 z (by rw [hcx z]; omega)]
      exact frc z (by omega)
theorem t_fxBRight {K5 : Nat → Option Nat → NM → Prop} {post : Unit → NM → Prop} {N : NM} {m cmp n gg b a kog kob : Nat} {vog vob y sb g2 : Option Nat} {cg : Bool} {LL RR La L3 L4 Lb : List (Nat × Int)} {kg kb : Int}
    (hC : tC K N m cmp n (some gg) g2 LL RR) (hblk : n = 0 → cg = true) (hg : N gg = some (nOd kog vog y (some b) g2 cg)) (ig : iAt K N kog (iI (-kg))) (bg : -3000 ≤ kg ∧ kg ≤ 3000) (ib : iAt K N kob (iI (-kb))) (bb : -3000 ≤ kb ∧ kb ≤ 3000)
    (tA : tT K N (some a) (some b) La) (ts : tT K N sb (some b) L3) (ty : tT K N y (some gg) L4)
    (hdir : (N b = some (nOd kob vob sb (some a) (some gg) false) ∧ Lb = L3 ++ (b, kb) :: La) ∨ (N b = some (nOd kob vob (some a) sb (some gg) false) ∧ Lb = La ++ (b, kb) :: L3))
    (hc : ∀ z, on1 m z + on1 b z + on1 gg z + (ad LL ++ ad RR).count z + (ad La).count z + (ad L3).count z + (ad L4).count z ≤ 1)
    (nx : ∀ N' : NM, tC K N' m cmp n (some gg) g2 LL RR → tT K N' (some gg) g2 (L4 ++ (gg, kg) :: Lb) → k22 N N' → (∀ z, on1 m z + on1 b z + on1 gg z + (ad LL ++ ad RR).count z + (ad La).count z + (ad L3).count z + (ad L4).count z = 0 → N' z = N z) → K5 m (some gg) N')
    (ex : ∀ (N' : NM) x w, (∃ ko vo l r c, N' x = some (nOd ko vo l r (some w) c)) → (∃ ko vo l r q, N' w = some (nOd ko vo l r q true)) → tC K N' m cmp n (some w) g2 LL RR → tT K N' (some w) g2 (L4 ++ (gg, kg) :: Lb) → k22 N N' → (∀ z, on1 m z + on1 b z + on1 gg z + (ad LL ++ ad RR).count z + (ad La).count z + (ad L3).count z + (ad L4).count z = 0 → N' z = N z) → K5 m (some x) N') : fxBRight K K5 post m (some a) N := by
  have sec := t_fxSRight (post := post) hC hblk hg ig bg ib bb tA ts ty hdir hc ex
  obtain ⟨koa, voa, ka, ca, la, ra, X1, X2, ha, -⟩ := tA.get
  have am := tA.mem
  obtain ⟨lb, rb, hb⟩ : ∃ lb rb, N b = some (nOd kob vob lb rb (some gg) false) := by
    rcases hdir with ⟨hb, -⟩ | ⟨hb, -⟩ <;> exact ⟨_, _, hb⟩
  unfold fxBRight
  refine p_par ha (p_par hb (p_left hg ?_))
  cases y with
  | none => exact p_col0 (b_f (by decide) sec)
  | some d =>
    obtain ⟨kd, vd, ld, rd, cd, hd, hre⟩ := ty.re (ndc (fun z => by have := hc z; omega))
    have dm := ty.mem
    have gb : gg ≠ b := fun e => by have := hc b; rw [e] at this; have := on1_s b; omega
    have ab : a ≠ b := fun e => by have := hc b; have := cntP am; rw [e] at this; have := on1_s b; omega
    have ag : a ≠ gg := fun e => by have := hc gg; have := cntP am; rw [e] at this; have := on1_s gg; omega
    have db : d ≠ b := fun e => by have := hc b; have := cntP dm; rw [e] at this; have := on1_s b; omega
    have dg : d ≠ gg := fun e => by have := hc gg; have := cntP dm; rw [e] at this; have := on1_s gg; omega
    have da : a ≠ d := fun e => by have := hc a; have := cntP am; rw [← e] at dm; have := cntP dm; omega
    have mg : m ≠ gg := fun e => by have := hc m; rw [← e] at this; have := on1_s m; omega
    have mb : m ≠ b := fun e => by have := hc m; rw [← e] at this; have := on1_s m; omega
    have mdd : m ≠ d := fun e => by have := hc m; rw [← e] at dm; have := cntP dm; have := on1_s m; omega
    refine p_col hd ?_
    cases cd with
    | true => exact b_f (by decide) sec
    | false =>
      refine b_t rfl (p_par ha (p_set true hb (fun N1 e1 => ?_)))
      have a1 := at_ne e1 ab ha
      have b1 : N1 b = some (nOd kob vob lb rb (some gg) true) := at_up e1
      have g1 := at_ne e1 gb hg
      have d1 := at_ne e1 db hd
      refine p_set true d1 (fun N2 e2 => ?_)
      have a2 := at_ne e2 da a1
      have b2 := at_ne e2 (Ne.symm db) b1
      have g2' := at_ne e2 (Ne.symm dg) g1
      refine p_par a2 (p_par b2 (p_set false g2' (fun N3 e3 => ?_)))
      have a3 := at_ne e3 ag a2
      have b3 := at_ne e3 (Ne.symm gb) b2
      have d3 : N3 d = some (nOd kd vd ld rd (some gg) true) := at_ne e3 dg (at_up e2)
      have g3 : N3 gg = some (nOd kog vog (some d) (some b) g2 false) := at_up e3
      have k3 : k22 N N3 := by
        rw [e3]
        refine k22.up (fs := _) (i := 20) ?_ g2' (by decide)
        rw [e2]
        refine k22.up (fs := _) (i := 20) ?_ d1 (by decide)
        rw [e1]
        exact k22.up (k22.rf N) hb (by decide)
      have f3 : ∀ z, z ≠ b → z ≠ gg → z ≠ d → N3 z = N z := fun z z1 z2 z3 => by rw [e3, up_ne _ _ _ z2, e2, up_ne _ _ _ z3, e1, up_ne _ _ _ z1]
      have nb : ∀ z, 1 ≤ (ad LL ++ ad RR).count z + (ad La).count z + (ad L3).count z + (ad L4).count z → z ≠ b ∧ z ≠ gg := fun z hz => ⟨fun e => by have := hc z; rw [e] at this hz; have := on1_s b; omega, fun e => by have := hc z; rw [e] at this hz; have := on1_s gg; omega⟩
      have nd : ∀ z, 1 ≤ (ad LL ++ ad RR).count z + (ad La).count z + (ad L3).count z → z ≠ d := fun z hz e => by have := hc z; rw [e] at this hz; have := cntP dm; omega
      have fo : ∀ z, 1 ≤ (ad LL ++ ad RR).count z + (ad La).count z + (ad L3).count z → N3 z = N z := fun z hz => f3 z (nb z (by omega)).1 (nb z (by omega)).2 (nd z hz)
      refine p_par a3 (p_par b3 ?_)
      refine nx N3 (hC.fr _ _ _ _ _ (fun z hz => fo z (by have := cntP hz; omega)) (f3 m mb mg mdd) k3) ?_ k3 (fun z hz => ?_)
      · have tA3 := tA.fr (fun z hz => fo z (by have := cntP hz; omega)) k3
        have ts3 := ts.fr (fun z hz => fo z (by have := cntP hz; omega)) k3
        have ty3 := hre N3 (some gg) true d3 (fun z hz zd => f3 z (nb z (by have := cntP hz; omega)).1 (nb z (by have := cntP hz; omega)).2 zd) k3
        have tb3 : tT K N3 (some b) (some gg) Lb := by
          rcases hdir with ⟨hb', eL⟩ | ⟨hb', eL⟩
          · rw [hb] at hb'
            have : N3 b = some (nOd kob vob sb (some a) (some gg) true) := by
              have e := Option.some.inj hb'
              simp only [Sum.inr.injEq, Prod.mk.injEq, List.cons.injEq, true_and, and_true] at e
              rw [b3]
              show some (eO 20 [_, _, va_rf lb, va_rf rb, _, _]) = _
              rw [e.1, e.2]
            rw [eL]
            exact tT.mk this (ib.k k3) bb ts3 tA3
          · rw [hb] at hb'
            have : N3 b = some (nOd kob vob (some a) sb (some gg) true) := by
              have e := Option.some.inj hb'
              simp only [Sum.inr.injEq, Prod.mk.injEq, List.cons.injEq, true_and, and_true] at e
              rw [b3]
              show some (eO 20 [_, _, va_rf lb, va_rf rb, _, _]) = _
              rw [e.1, e.2]
            rw [eL]
            exact tT.mk this (ib.k k3) bb tA3 ts3
        exact tT.mk g3 (ig.k k3) bg ty3 tb3
      · refine f3 z (fun e => ?_) (fun e => ?_) (fun e => ?_)
        · rw [e] at hz; have := on1_s b; omega
        · rw [e] at hz; have := on1_s gg; omega
        · rw [e] at hz; have := cntP dm; omega
end
