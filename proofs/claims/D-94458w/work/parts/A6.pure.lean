/-! PURE HALF: what was read is laid (by program). -/
set_option maxRecDepth 100000
theorem LS2.oth {s s' : ZS} {l e m ki : Nat} {ad : Nat → Nat} {S : Nat → Prop} {k q : Nat} (h : LS2 s l e m ki ad) (hki : ki ≠ 1000) (fr : ∀ a, zt s ≤ a → zK s a = (1000, 0)) (g : Gw S k q s s') (hl : ¬ S l) (he : ¬ S e) : LS2 s' l e m ki ad := by
  obtain ⟨h1, h2, ⟨m1, h3⟩, h4, h5, ⟨m2, h6, h7⟩, h10⟩ := h
  have lt : ∀ a, (zK s a).1 ≠ 1000 → a < zt s := fun a ha => by
    rcases Nat.lt_or_ge a (zt s) with k | k
    · exact k
    · rw [fr a k] at ha; exact absurd rfl ha
  have ll := lt l (by rw [h3]; simp)
  have le := lt e (by rw [h6]; simp)
  have cdl : ∀ i, cd l i = l := fun i => by unfold cd; rw [if_neg (by omega), if_neg (by omega)]
  have cde : ∀ i, cd e i = e := fun i => by unfold cd; rw [if_neg (by omega), if_neg (by omega)]
  refine ⟨h1, h2, ⟨m1, by rw [g.kk l ll]; exact h3⟩, by rw [g.i l 2 ll (by rw [cdl]; exact hl)]; exact h4, by rw [g.p l 1 ll (by rw [cdl]; exact hl)]; exact h5, ⟨m2, by rw [g.kk e le]; exact h6, h7⟩, fun i hi => ?_⟩
  obtain ⟨b1, b2, x, b3⟩ := h10 i hi
  have la := lt (ad i) (by rw [b3]; exact hki)
  exact ⟨by rw [g.p e i le (by rw [cde]; exact he)]; exact b1, b2, x, by rw [g.kk _ la]; exact b3⟩
theorem RS.adC {n : Nat} {tx : Nat → Int32} {R : Nat} {d : Ad} {d3 d4 : Nat} {P : PT} {σ : ZS} {σ' : ZS} {e' q k m : Nat} (h : RS n tx R d d3 d4 P σ) (g : Gw (fun c => c = d.lc ∨ c = d.ec) k m σ σ') (he : e' = d.ec ∨ e' = zt σ) {x y : Nat} (hl : LS2 σ' d.lc e' (P.T.nc + 1) 13 (up d.co P.T.nc q)) (kq : zK σ q = (13, 0)) (q0 : zI σ q 0 = nI x) (q1 : zI σ q 1 = nI y) (hb : zt σ' ≤ 160000) (pw : PW1 ((adC P.T x y, P.sg, P.al, P.cl) : PT)) : RS n tx R (Ad.mk d.tw d.lc e' (up d.co P.T.nc q) d.ls d.es d.so d.lr d.er d.ro d.lf d.lt) d3 d4 ((adC P.T x y, P.sg, P.al, P.cl) : PT) σ' := by
  obtain ⟨mr, kr⟩ := h.kr
  obtain ⟨mt, kt⟩ := h.kt
  have hz := h.nz
  have hzb := h.zb
  obtain ⟨xl, kL⟩ := h.lc.2.2.1
  obtain ⟨xe, kE, -⟩ := h.lc.2.2.2.2.2.1
  have oL := h.lc.1
  have oE := h.lc.2.1
  have lL := h.lt (a := d.lc) (by rw [kL]; simp)
  have lE := h.lt (a := d.ec) (by rw [kE]; simp)
  have nS : ∀ a i, (zK σ a).1 ≠ 16 → (zK σ a).1 ≠ 6 → ¬ (cd a i = d.lc ∨ cd a i = d.ec) := fun a i h1 h2 hc => by
    have e : cd a i = a := by
      unfold cd at hc ⊢
      split at hc
      · omega
      · split at hc
        · omega
        · rename_i n1 n2; rw [if_neg n1, if_neg n2]
    rw [e] at hc
    rcases hc with rfl | rfl
    · rw [kL] at h1; exact h1 rfl
    · rw [kE] at h2; exact h2 rfl
  have eI : ∀ a i, (zK σ a).1 ≠ 1000 → (zK σ a).1 ≠ 16 → (zK σ a).1 ≠ 6 → zI σ' a i = zI σ a i := fun a i h0 h1 h2 => g.i a i (h.lt h0) (nS a i h1 h2)
  have eP : ∀ a i, (zK σ a).1 ≠ 1000 → (zK σ a).1 ≠ 16 → (zK σ a).1 ≠ 6 → zP σ' a i = zP σ a i := fun a i h0 h1 h2 => g.p a i (h.lt h0) (nS a i h1 h2)
  have eK : ∀ a, (zK σ a).1 ≠ 1000 → zK σ' a = zK σ a := fun a h0 => g.kk a (h.lt h0)
  have vc : ∀ i, i < P.T.nc → ∀ j, zI σ' (d.co i) j = zI σ (d.co i) j := fun i hi j => by
    obtain ⟨-, a2, m, a3⟩ := h.lc.2.2.2.2.2.2 i hi
    exact eI _ j (by rw [a3]; simp) (by rw [a3]; simp) (by rw [a3]; simp)
  have vs : ∀ i, i < P.T.ns → ∀ j, zI σ' (d.so i) j = zI σ (d.so i) j := fun i hi j => by
    obtain ⟨-, a2, m, a3⟩ := h.ls.2.2.2.2.2.2 i hi
    exact eI _ j (by rw [a3]; simp) (by rw [a3]; simp) (by rw [a3]; simp)
  have vr : ∀ i, i < P.T.nr → ∀ j, zI σ' (d.ro i) j = zI σ (d.ro i) j := fun i hi j => by
    obtain ⟨-, a2, m, a3⟩ := h.lr.2.2.2.2.2.2 i hi
    exact eI _ j (by rw [a3]; simp) (by rw [a3]; simp) (by rw [a3]; simp)
  have vq : ∀ j, zI σ' q j = zI σ q j := fun j => eI q j (by rw [kq]; simp) (by rw [kq]; simp) (by rw [kq]; simp)
  have vt : ∀ i, zI σ' d.tw i = zI σ d.tw i := fun i => eI _ i (by rw [kt]; simp) (by rw [kt]; simp) (by rw [kt]; simp)
  have pt : ∀ i, zP σ' d.tw i = zP σ d.tw i := fun i => eP _ i (by rw [kt]; simp) (by rw [kt]; simp) (by rw [kt]; simp)
  have t16 : ∀ i, zI σ' 16 i = zI σ 16 i := fun i => g.i 16 i (by omega) (by rw [show cd 16 i = 16 from rfl]; omega)
  have Ls : LS2 σ' d.ls d.es P.T.ns 14 d.so := h.ls.oth (by decide) h.fr g (by
    rintro (k | k)
    · exact (Ne.symm h.ncs) k
    · obtain ⟨x1, y1⟩ := h.ls.2.2.1; rw [k, kE] at y1; cases y1) (by
    rintro (k | k)
    · obtain ⟨x1, y1, -⟩ := h.ls.2.2.2.2.2.1; rw [k, kL] at y1; cases y1
    · exact (Ne.symm h.ecs) k)
  have Lr : LS2 σ' d.lr d.er P.T.nr 15 d.ro := h.lr.oth (by decide) h.fr g (by
    rintro (k | k)
    · exact (Ne.symm h.ncr) k
    · obtain ⟨x1, y1⟩ := h.lr.2.2.1; rw [k, kE] at y1; cases y1) (by
    rintro (k | k)
    · obtain ⟨x1, y1, -⟩ := h.lr.2.2.2.2.2.1; rw [k, kL] at y1; cases y1
    · exact (Ne.symm h.ecr) k)
  have Ns : e' ≠ d.es := by
    rcases he with k | k
    · rw [k]; exact h.ecs
    · obtain ⟨x1, y1, -⟩ := h.ls.2.2.2.2.2.1; have := h.lt (a := d.es) (by rw [y1]; simp); omega
  have Nr : e' ≠ d.er := by
    rcases he with k | k
    · rw [k]; exact h.ecr
    · obtain ⟨x1, y1, -⟩ := h.lr.2.2.2.2.2.1; have := h.lt (a := d.er) (by rw [y1]; simp); omega
  refine ⟨?_, ?_, ?_, ?_, ?_, ?_, ?_, ?_, ?_, ?_, ?_, ?_, ?_, ?_, ?_, ?_, ?_, ?_, ?_, ?_, ?_, ?_, ?_, ?_, ?_, ?_, ?_, ?_, ?_, ?_, ?_, ?_, ?_, ?_, ?_, ?_, ?_, ?_, ?_, ?_, ?_, ?_, ?_, ?_, ?_, ?_, ?_, ?_, ?_, ?_, ?_, ?_, ?_, ?_, ?_⟩
  · exact g.kf h.fr
  · exact by have := g.t1; omega
  · exact hb
  · exact h.oR
  · exact ⟨mr, by rw [eK R (by rw [kr]; simp)]; exact kr⟩
  · exact by rw [eP R _ (by rw [kr]; simp) (by rw [kr]; simp) (by rw [kr]; simp)]; exact h.r0
  · exact by rw [eP R _ (by rw [kr]; simp) (by rw [kr]; simp) (by rw [kr]; simp)]; exact h.r4
  · exact by rw [eI R _ (by rw [kr]; simp) (by rw [kr]; simp) (by rw [kr]; simp)]; exact h.r1
  · exact h.hn
  · exact fun i hi => by rw [t16]; exact h.tp i hi
  · exact h.by
  · exact pw
  · exact h.ot
  · exact ⟨mt, (eK d.tw (by rw [kt]; simp)).trans kt⟩
  · exact by rw [show ((Ad.mk d.tw d.lc e' (up d.co P.T.nc q) d.ls d.es d.so d.lr d.er d.ro d.lf d.lt)).tw = d.tw from rfl, pt]; exact h.p0
  · exact by rw [show ((Ad.mk d.tw d.lc e' (up d.co P.T.nc q) d.ls d.es d.so d.lr d.er d.ro d.lf d.lt)).tw = d.tw from rfl, pt]; exact h.p1
  · exact by rw [show ((Ad.mk d.tw d.lc e' (up d.co P.T.nc q) d.ls d.es d.so d.lr d.er d.ro d.lf d.lt)).tw = d.tw from rfl, pt]; exact h.p2
  · exact by rw [show ((Ad.mk d.tw d.lc e' (up d.co P.T.nc q) d.ls d.es d.so d.lr d.er d.ro d.lf d.lt)).tw = d.tw from rfl, pt]; exact h.p3
  · exact by rw [show ((Ad.mk d.tw d.lc e' (up d.co P.T.nc q) d.ls d.es d.so d.lr d.er d.ro d.lf d.lt)).tw = d.tw from rfl, pt]; exact h.p4
  · exact by rw [show ((Ad.mk d.tw d.lc e' (up d.co P.T.nc q) d.ls d.es d.so d.lr d.er d.ro d.lf d.lt)).tw = d.tw from rfl, pt]; exact h.p5
  · exact by rw [show ((Ad.mk d.tw d.lc e' (up d.co P.T.nc q) d.ls d.es d.so d.lr d.er d.ro d.lf d.lt)).tw = d.tw from rfl, pt]; exact h.p6
  · exact h.o3
  · exact h.o4
  · exact h.o5
  · exact h.o6
  · exact (eK d3 (by rw [h.k3]; simp)).trans h.k3
  · exact (eK d4 (by rw [h.k4]; simp)).trans h.k4
  · exact (eK d.lf (by rw [h.k5]; simp)).trans h.k5
  · exact (eK d.lt (by rw [h.k6]; simp)).trans h.k6
  · exact h.n34
  · exact h.n56
  · exact hl
  · exact Ls
  · exact Lr
  · exact h.ncs
  · exact h.ncr
  · exact h.nsr
  · exact Ns
  · exact Nr
  · exact h.esr
  · exact h.si
  · exact (vt 7).trans h.bx
  · exact (vt 8).trans h.nl
  · exact (vt 9).trans h.cl
  · exact fun s hs => (eI d3 s (by rw [h.k3]; simp) (by rw [h.k3]; simp) (by rw [h.k3]; simp)).trans (h.sg s hs)
  · exact fun s hs => (eI d4 s (by rw [h.k4]; simp) (by rw [h.k4]; simp) (by rw [h.k4]; simp)).trans (h.al s hs)
  · exact fun i hi => by
      have hi : i < P.T.nc + 1 := hi
      show zI σ' (up d.co P.T.nc q i) 0 = up P.T.cx P.T.nc (nI x) i
      by_cases e : i = P.T.nc
      · rw [e, up_self, up_self, vq]; exact q0
      · rw [up_ne _ _ e, up_ne _ _ e, vc i (by omega)]; exact h.cx i (by omega)
  · exact fun i hi => by
      have hi : i < P.T.nc + 1 := hi
      show zI σ' (up d.co P.T.nc q i) 1 = up P.T.cy P.T.nc (nI y) i
      by_cases e : i = P.T.nc
      · rw [e, up_self, up_self, vq]; exact q1
      · rw [up_ne _ _ e, up_ne _ _ e, vc i (by omega)]; exact h.cy i (by omega)
  · exact fun i hi => (vs i hi 0).trans (h.sf i hi)
  · exact fun i hi => (vs i hi 1).trans (h.st i hi)
  · exact fun i hi => (vs i hi 2).trans (h.sl i hi)
  · exact fun i hi => (vs i hi 3).trans (h.so i hi)
  · exact fun i hi => (vr i hi 0).trans (h.rf i hi)
  · exact fun i hi => (vr i hi 1).trans (h.rt i hi)
  · exact fun i hi => (vr i hi 2).trans (h.rb i hi)
theorem RS.adS {n : Nat} {tx : Nat → Int32} {R : Nat} {d : Ad} {d3 d4 : Nat} {P : PT} {σ : ZS} {σ' : ZS} {e' q k m : Nat} (h : RS n tx R d d3 d4 P σ) (g : Gw (fun c => c = d.ls ∨ c = d.es) k m σ σ') (he : e' = d.es ∨ e' = zt σ) {a b l : Nat} (hl : LS2 σ' d.ls e' (P.T.ns + 1) 14 (up d.so P.T.ns q)) (kq : zK σ q = (14, 0)) (q0 : zI σ q 0 = nI a) (q1 : zI σ q 1 = nI b) (q2 : zI σ q 2 = nI l) (q3 : zI σ q 3 = 0) (qi : ∀ i, i < P.T.ns → d.so i ≠ q) (hb : zt σ' ≤ 160000) (pw : PW1 ((adS P.T a b l, P.sg, P.al, P.cl) : PT)) : RS n tx R (Ad.mk d.tw d.lc d.ec d.co d.ls e' (up d.so P.T.ns q) d.lr d.er d.ro d.lf d.lt) d3 d4 ((adS P.T a b l, P.sg, P.al, P.cl) : PT) σ' := by
  obtain ⟨mr, kr⟩ := h.kr
  obtain ⟨mt, kt⟩ := h.kt
  have hz := h.nz
  have hzb := h.zb
  obtain ⟨xl, kL⟩ := h.ls.2.2.1
  obtain ⟨xe, kE, -⟩ := h.ls.2.2.2.2.2.1
  have oL := h.ls.1
  have oE := h.ls.2.1
  have lL := h.lt (a := d.ls) (by rw [kL]; simp)
  have lE := h.lt (a := d.es) (by rw [kE]; simp)
  have nS : ∀ a i, (zK σ a).1 ≠ 16 → (zK σ a).1 ≠ 6 → ¬ (cd a i = d.ls ∨ cd a i = d.es) := fun a i h1 h2 hc => by
    have e : cd a i = a := by
      unfold cd at hc ⊢
      split at hc
      · omega
      · split at hc
        · omega
        · rename_i n1 n2; rw [if_neg n1, if_neg n2]
    rw [e] at hc
    rcases hc with rfl | rfl
    · rw [kL] at h1; exact h1 rfl
    · rw [kE] at h2; exact h2 rfl
  have eI : ∀ a i, (zK σ a).1 ≠ 1000 → (zK σ a).1 ≠ 16 → (zK σ a).1 ≠ 6 → zI σ' a i = zI σ a i := fun a i h0 h1 h2 => g.i a i (h.lt h0) (nS a i h1 h2)
  have eP : ∀ a i, (zK σ a).1 ≠ 1000 → (zK σ a).1 ≠ 16 → (zK σ a).1 ≠ 6 → zP σ' a i = zP σ a i := fun a i h0 h1 h2 => g.p a i (h.lt h0) (nS a i h1 h2)
  have eK : ∀ a, (zK σ a).1 ≠ 1000 → zK σ' a = zK σ a := fun a h0 => g.kk a (h.lt h0)
  have vc : ∀ i, i < P.T.nc → ∀ j, zI σ' (d.co i) j = zI σ (d.co i) j := fun i hi j => by
    obtain ⟨-, a2, m, a3⟩ := h.lc.2.2.2.2.2.2 i hi
    exact eI _ j (by rw [a3]; simp) (by rw [a3]; simp) (by rw [a3]; simp)
  have vs : ∀ i, i < P.T.ns → ∀ j, zI σ' (d.so i) j = zI σ (d.so i) j := fun i hi j => by
    obtain ⟨-, a2, m, a3⟩ := h.ls.2.2.2.2.2.2 i hi
    exact eI _ j (by rw [a3]; simp) (by rw [a3]; simp) (by rw [a3]; simp)
  have vr : ∀ i, i < P.T.nr → ∀ j, zI σ' (d.ro i) j = zI σ (d.ro i) j := fun i hi j => by
    obtain ⟨-, a2, m, a3⟩ := h.lr.2.2.2.2.2.2 i hi
    exact eI _ j (by rw [a3]; simp) (by rw [a3]; simp) (by rw [a3]; simp)
  have vq : ∀ j, zI σ' q j = zI σ q j := fun j => eI q j (by rw [kq]; simp) (by rw [kq]; simp) (by rw [kq]; simp)
  have vt : ∀ i, zI σ' d.tw i = zI σ d.tw i := fun i => eI _ i (by rw [kt]; simp) (by rw [kt]; simp) (by rw [kt]; simp)
  have pt : ∀ i, zP σ' d.tw i = zP σ d.tw i := fun i => eP _ i (by rw [kt]; simp) (by rw [kt]; simp) (by rw [kt]; simp)
  have t16 : ∀ i, zI σ' 16 i = zI σ 16 i := fun i => g.i 16 i (by omega) (by rw [show cd 16 i = 16 from rfl]; omega)
  have Lc : LS2 σ' d.lc d.ec P.T.nc 13 d.co := h.lc.oth (by decide) h.fr g (by
    rintro (k | k)
    · exact (h.ncs) k
    · obtain ⟨x1, y1⟩ := h.lc.2.2.1; rw [k, kE] at y1; cases y1) (by
    rintro (k | k)
    · obtain ⟨x1, y1, -⟩ := h.lc.2.2.2.2.2.1; rw [k, kL] at y1; cases y1
    · exact (h.ecs) k)
  have Lr : LS2 σ' d.lr d.er P.T.nr 15 d.ro := h.lr.oth (by decide) h.fr g (by
    rintro (k | k)
    · exact (Ne.symm h.nsr) k
    · obtain ⟨x1, y1⟩ := h.lr.2.2.1; rw [k, kE] at y1; cases y1) (by
    rintro (k | k)
    · obtain ⟨x1, y1, -⟩ := h.lr.2.2.2.2.2.1; rw [k, kL] at y1; cases y1
    · exact (Ne.symm h.esr) k)
  have Nc : e' ≠ d.ec := by
    rcases he with k | k
    · rw [k]; exact Ne.symm h.ecs
    · obtain ⟨x1, y1, -⟩ := h.lc.2.2.2.2.2.1; have := h.lt (a := d.ec) (by rw [y1]; simp); omega
  have Nr : e' ≠ d.er := by
    rcases he with k | k
    · rw [k]; exact h.esr
    · obtain ⟨x1, y1, -⟩ := h.lr.2.2.2.2.2.1; have := h.lt (a := d.er) (by rw [y1]; simp); omega
  refine ⟨?_, ?_, ?_, ?_, ?_, ?_, ?_, ?_, ?_, ?_, ?_, ?_, ?_, ?_, ?_, ?_, ?_, ?_, ?_, ?_, ?_, ?_, ?_, ?_, ?_, ?_, ?_, ?_, ?_, ?_, ?_, ?_, ?_, ?_, ?_, ?_, ?_, ?_, ?_, ?_, ?_, ?_, ?_, ?_, ?_, ?_, ?_, ?_, ?_, ?_, ?_, ?_, ?_, ?_, ?_⟩
  · exact g.kf h.fr
  · exact by have := g.t1; omega
  · exact hb
  · exact h.oR
  · exact ⟨mr, by rw [eK R (by rw [kr]; simp)]; exact kr⟩
  · exact by rw [eP R _ (by rw [kr]; simp) (by rw [kr]; simp) (by rw [kr]; simp)]; exact h.r0
  · exact by rw [eP R _ (by rw [kr]; simp) (by rw [kr]; simp) (by rw [kr]; simp)]; exact h.r4
  · exact by rw [eI R _ (by rw [kr]; simp) (by rw [kr]; simp) (by rw [kr]; simp)]; exact h.r1
  · exact h.hn
  · exact fun i hi => by rw [t16]; exact h.tp i hi
  · exact h.by
  · exact pw
  · exact h.ot
  · exact ⟨mt, (eK d.tw (by rw [kt]; simp)).trans kt⟩
  · exact by rw [show ((Ad.mk d.tw d.lc d.ec d.co d.ls e' (up d.so P.T.ns q) d.lr d.er d.ro d.lf d.lt)).tw = d.tw from rfl, pt]; exact h.p0
  · exact by rw [show ((Ad.mk d.tw d.lc d.ec d.co d.ls e' (up d.so P.T.ns q) d.lr d.er d.ro d.lf d.lt)).tw = d.tw from rfl, pt]; exact h.p1
  · exact by rw [show ((Ad.mk d.tw d.lc d.ec d.co d.ls e' (up d.so P.T.ns q) d.lr d.er d.ro d.lf d.lt)).tw = d.tw from rfl, pt]; exact h.p2
  · exact by rw [show ((Ad.mk d.tw d.lc d.ec d.co d.ls e' (up d.so P.T.ns q) d.lr d.er d.ro d.lf d.lt)).tw = d.tw from rfl, pt]; exact h.p3
  · exact by rw [show ((Ad.mk d.tw d.lc d.ec d.co d.ls e' (up d.so P.T.ns q) d.lr d.er d.ro d.lf d.lt)).tw = d.tw from rfl, pt]; exact h.p4
  · exact by rw [show ((Ad.mk d.tw d.lc d.ec d.co d.ls e' (up d.so P.T.ns q) d.lr d.er d.ro d.lf d.lt)).tw = d.tw from rfl, pt]; exact h.p5
  · exact by rw [show ((Ad.mk d.tw d.lc d.ec d.co d.ls e' (up d.so P.T.ns q) d.lr d.er d.ro d.lf d.lt)).tw = d.tw from rfl, pt]; exact h.p6
  · exact h.o3
  · exact h.o4
  · exact h.o5
  · exact h.o6
  · exact (eK d3 (by rw [h.k3]; simp)).trans h.k3
  · exact (eK d4 (by rw [h.k4]; simp)).trans h.k4
  · exact (eK d.lf (by rw [h.k5]; simp)).trans h.k5
  · exact (eK d.lt (by rw [h.k6]; simp)).trans h.k6
  · exact h.n34
  · exact h.n56
  · exact Lc
  · exact hl
  · exact Lr
  · exact h.ncs
  · exact h.ncr
  · exact h.nsr
  · exact Ne.symm Nc
  · exact h.ecr
  · exact Nr
  · exact fun i j hi hj => by
      have hi : i < P.T.ns + 1 := hi
      have hj : j < P.T.ns + 1 := hj
      show up d.so P.T.ns q i = up d.so P.T.ns q j → i = j
      by_cases ei : i = P.T.ns
      · by_cases ej : j = P.T.ns
        · intro _; omega
        · rw [ei, up_self, up_ne _ _ ej]; intro k; exact absurd k.symm (qi j (by omega))
      · by_cases ej : j = P.T.ns
        · rw [ej, up_self, up_ne _ _ ei]; intro k; exact absurd k (qi i (by omega))
        · rw [up_ne _ _ ei, up_ne _ _ ej]; exact h.si i j (by omega) (by omega)
  · exact (vt 7).trans h.bx
  · exact (vt 8).trans h.nl
  · exact (vt 9).trans h.cl
  · exact fun s hs => (eI d3 s (by rw [h.k3]; simp) (by rw [h.k3]; simp) (by rw [h.k3]; simp)).trans (h.sg s hs)
  · exact fun s hs => (eI d4 s (by rw [h.k4]; simp) (by rw [h.k4]; simp) (by rw [h.k4]; simp)).trans (h.al s hs)
  · exact fun i hi => (vc i hi 0).trans (h.cx i hi)
  · exact fun i hi => (vc i hi 1).trans (h.cy i hi)
  · exact fun i hi => by
      have hi : i < P.T.ns + 1 := hi
      show zI σ' (up d.so P.T.ns q i) 0 = nI (up P.T.sf P.T.ns (a) i)
      by_cases e : i = P.T.ns
      · rw [e, up_self, up_self, vq]; exact q0
      · rw [up_ne _ _ e, up_ne _ _ e, vs i (by omega)]; exact h.sf i (by omega)
  · exact fun i hi => by
      have hi : i < P.T.ns + 1 := hi
      show zI σ' (up d.so P.T.ns q i) 1 = nI (up P.T.st P.T.ns (b) i)
      by_cases e : i = P.T.ns
      · rw [e, up_self, up_self, vq]; exact q1
      · rw [up_ne _ _ e, up_ne _ _ e, vs i (by omega)]; exact h.st i (by omega)
  · exact fun i hi => by
      have hi : i < P.T.ns + 1 := hi
      show zI σ' (up d.so P.T.ns q i) 2 = nI (up P.T.sl P.T.ns (l) i)
      by_cases e : i = P.T.ns
      · rw [e, up_self, up_self, vq]; exact q2
      · rw [up_ne _ _ e, up_ne _ _ e, vs i (by omega)]; exact h.sl i (by omega)
  · exact fun i hi => by
      have hi : i < P.T.ns + 1 := hi
      show zI σ' (up d.so P.T.ns q i) 3 = b2i (up P.T.so P.T.ns (false) i)
      by_cases e : i = P.T.ns
      · rw [e, up_self, up_self, vq]; exact q3
      · rw [up_ne _ _ e, up_ne _ _ e, vs i (by omega)]; exact h.so i (by omega)
  · exact fun i hi => (vr i hi 0).trans (h.rf i hi)
  · exact fun i hi => (vr i hi 1).trans (h.rt i hi)
  · exact fun i hi => (vr i hi 2).trans (h.rb i hi)
theorem RS.adR {n : Nat} {tx : Nat → Int32} {R : Nat} {d : Ad} {d3 d4 : Nat} {P : PT} {σ : ZS} {σ' : ZS} {e' q k m : Nat} (h : RS n tx R d d3 d4 P σ) (g : Gw (fun c => c = d.lr ∨ c = d.er) k m σ σ') (he : e' = d.er ∨ e' = zt σ) {a b l : Nat} (hl : LS2 σ' d.lr e' (P.T.nr + 1) 15 (up d.ro P.T.nr q)) (kq : zK σ q = (15, 0)) (q0 : zI σ q 0 = nI a) (q1 : zI σ q 1 = nI b) (q2 : zI σ q 2 = nI l) (hb : zt σ' ≤ 160000) (pw : PW1 ((adR P.T a b l, P.sg, P.al, P.cl) : PT)) : RS n tx R (Ad.mk d.tw d.lc d.ec d.co d.ls d.es d.so d.lr e' (up d.ro P.T.nr q) d.lf d.lt) d3 d4 ((adR P.T a b l, P.sg, P.al, P.cl) : PT) σ' := by
  obtain ⟨mr, kr⟩ := h.kr
  obtain ⟨mt, kt⟩ := h.kt
  have hz := h.nz
  have hzb := h.zb
  obtain ⟨xl, kL⟩ := h.lr.2.2.1
  obtain ⟨xe, kE, -⟩ := h.lr.2.2.2.2.2.1
  have oL := h.lr.1
  have oE := h.lr.2.1
  have lL := h.lt (a := d.lr) (by rw [kL]; simp)
  have lE := h.lt (a := d.er) (by rw [kE]; simp)
  have nS : ∀ a i, (zK σ a).1 ≠ 16 → (zK σ a).1 ≠ 6 → ¬ (cd a i = d.lr ∨ cd a i = d.er) := fun a i h1 h2 hc => by
    have e : cd a i = a := by
      unfold cd at hc ⊢
      split at hc
      · omega
      · split at hc
        · omega
        · rename_i n1 n2; rw [if_neg n1, if_neg n2]
    rw [e] at hc
    rcases hc with rfl | rfl
    · rw [kL] at h1; exact h1 rfl
    · rw [kE] at h2; exact h2 rfl
  have eI : ∀ a i, (zK σ a).1 ≠ 1000 → (zK σ a).1 ≠ 16 → (zK σ a).1 ≠ 6 → zI σ' a i = zI σ a i := fun a i h0 h1 h2 => g.i a i (h.lt h0) (nS a i h1 h2)
  have eP : ∀ a i, (zK σ a).1 ≠ 1000 → (zK σ a).1 ≠ 16 → (zK σ a).1 ≠ 6 → zP σ' a i = zP σ a i := fun a i h0 h1 h2 => g.p a i (h.lt h0) (nS a i h1 h2)
  have eK : ∀ a, (zK σ a).1 ≠ 1000 → zK σ' a = zK σ a := fun a h0 => g.kk a (h.lt h0)
  have vc : ∀ i, i < P.T.nc → ∀ j, zI σ' (d.co i) j = zI σ (d.co i) j := fun i hi j => by
    obtain ⟨-, a2, m, a3⟩ := h.lc.2.2.2.2.2.2 i hi
    exact eI _ j (by rw [a3]; simp) (by rw [a3]; simp) (by rw [a3]; simp)
  have vs : ∀ i, i < P.T.ns → ∀ j, zI σ' (d.so i) j = zI σ (d.so i) j := fun i hi j => by
    obtain ⟨-, a2, m, a3⟩ := h.ls.2.2.2.2.2.2 i hi
    exact eI _ j (by rw [a3]; simp) (by rw [a3]; simp) (by rw [a3]; simp)
  have vr : ∀ i, i < P.T.nr → ∀ j, zI σ' (d.ro i) j = zI σ (d.ro i) j := fun i hi j => by
    obtain ⟨-, a2, m, a3⟩ := h.lr.2.2.2.2.2.2 i hi
    exact eI _ j (by rw [a3]; simp) (by rw [a3]; simp) (by rw [a3]; simp)
  have vq : ∀ j, zI σ' q j = zI σ q j := fun j => eI q j (by rw [kq]; simp) (by rw [kq]; simp) (by rw [kq]; simp)
  have vt : ∀ i, zI σ' d.tw i = zI σ d.tw i := fun i => eI _ i (by rw [kt]; simp) (by rw [kt]; simp) (by rw [kt]; simp)
  have pt : ∀ i, zP σ' d.tw i = zP σ d.tw i := fun i => eP _ i (by rw [kt]; simp) (by rw [kt]; simp) (by rw [kt]; simp)
  have t16 : ∀ i, zI σ' 16 i = zI σ 16 i := fun i => g.i 16 i (by omega) (by rw [show cd 16 i = 16 from rfl]; omega)
  have Lc : LS2 σ' d.lc d.ec P.T.nc 13 d.co := h.lc.oth (by decide) h.fr g (by
    rintro (k | k)
    · exact (h.ncr) k
    · obtain ⟨x1, y1⟩ := h.lc.2.2.1; rw [k, kE] at y1; cases y1) (by
    rintro (k | k)
    · obtain ⟨x1, y1, -⟩ := h.lc.2.2.2.2.2.1; rw [k, kL] at y1; cases y1
    · exact (h.ecr) k)
  have Ls : LS2 σ' d.ls d.es P.T.ns 14 d.so := h.ls.oth (by decide) h.fr g (by
    rintro (k | k)
    · exact (h.nsr) k
    · obtain ⟨x1, y1⟩ := h.ls.2.2.1; rw [k, kE] at y1; cases y1) (by
    rintro (k | k)
    · obtain ⟨x1, y1, -⟩ := h.ls.2.2.2.2.2.1; rw [k, kL] at y1; cases y1
    · exact (h.esr) k)
  have Nc : e' ≠ d.ec := by
    rcases he with k | k
    · rw [k]; exact Ne.symm h.ecr
    · obtain ⟨x1, y1, -⟩ := h.lc.2.2.2.2.2.1; have := h.lt (a := d.ec) (by rw [y1]; simp); omega
  have Ns : e' ≠ d.es := by
    rcases he with k | k
    · rw [k]; exact Ne.symm h.esr
    · obtain ⟨x1, y1, -⟩ := h.ls.2.2.2.2.2.1; have := h.lt (a := d.es) (by rw [y1]; simp); omega
  refine ⟨?_, ?_, ?_, ?_, ?_, ?_, ?_, ?_, ?_, ?_, ?_, ?_, ?_, ?_, ?_, ?_, ?_, ?_, ?_, ?_, ?_, ?_, ?_, ?_, ?_, ?_, ?_, ?_, ?_, ?_, ?_, ?_, ?_, ?_, ?_, ?_, ?_, ?_, ?_, ?_, ?_, ?_, ?_, ?_, ?_, ?_, ?_, ?_, ?_, ?_, ?_, ?_, ?_, ?_, ?_⟩
  · exact g.kf h.fr
  · exact by have := g.t1; omega
  · exact hb
  · exact h.oR
  · exact ⟨mr, by rw [eK R (by rw [kr]; simp)]; exact kr⟩
  · exact by rw [eP R _ (by rw [kr]; simp) (by rw [kr]; simp) (by rw [kr]; simp)]; exact h.r0
  · exact by rw [eP R _ (by rw [kr]; simp) (by rw [kr]; simp) (by rw [kr]; simp)]; exact h.r4
  · exact by rw [eI R _ (by rw [kr]; simp) (by rw [kr]; simp) (by rw [kr]; simp)]; exact h.r1
  · exact h.hn
  · exact fun i hi => by rw [t16]; exact h.tp i hi
  · exact h.by
  · exact pw
  · exact h.ot
  · exact ⟨mt, (eK d.tw (by rw [kt]; simp)).trans kt⟩
  · exact by rw [show ((Ad.mk d.tw d.lc d.ec d.co d.ls d.es d.so d.lr e' (up d.ro P.T.nr q) d.lf d.lt)).tw = d.tw from rfl, pt]; exact h.p0
  · exact by rw [show ((Ad.mk d.tw d.lc d.ec d.co d.ls d.es d.so d.lr e' (up d.ro P.T.nr q) d.lf d.lt)).tw = d.tw from rfl, pt]; exact h.p1
  · exact by rw [show ((Ad.mk d.tw d.lc d.ec d.co d.ls d.es d.so d.lr e' (up d.ro P.T.nr q) d.lf d.lt)).tw = d.tw from rfl, pt]; exact h.p2
  · exact by rw [show ((Ad.mk d.tw d.lc d.ec d.co d.ls d.es d.so d.lr e' (up d.ro P.T.nr q) d.lf d.lt)).tw = d.tw from rfl, pt]; exact h.p3
  · exact by rw [show ((Ad.mk d.tw d.lc d.ec d.co d.ls d.es d.so d.lr e' (up d.ro P.T.nr q) d.lf d.lt)).tw = d.tw from rfl, pt]; exact h.p4
  · exact by rw [show ((Ad.mk d.tw d.lc d.ec d.co d.ls d.es d.so d.lr e' (up d.ro P.T.nr q) d.lf d.lt)).tw = d.tw from rfl, pt]; exact h.p5
  · exact by rw [show ((Ad.mk d.tw d.lc d.ec d.co d.ls d.es d.so d.lr e' (up d.ro P.T.nr q) d.lf d.lt)).tw = d.tw from rfl, pt]; exact h.p6
  · exact h.o3
  · exact h.o4
  · exact h.o5
  · exact h.o6
  · exact (eK d3 (by rw [h.k3]; simp)).trans h.k3
  · exact (eK d4 (by rw [h.k4]; simp)).trans h.k4
  · exact (eK d.lf (by rw [h.k5]; simp)).trans h.k5
  · exact (eK d.lt (by rw [h.k6]; simp)).trans h.k6
  · exact h.n34
  · exact h.n56
  · exact Lc
  · exact Ls
  · exact hl
  · exact h.ncs
  · exact h.ncr
  · exact h.nsr
  · exact h.ecs
  · exact Ne.symm Nc
  · exact Ne.symm Ns
  · exact h.si
  · exact (vt 7).trans h.bx
  · exact (vt 8).trans h.nl
  · exact (vt 9).trans h.cl
  · exact fun s hs => (eI d3 s (by rw [h.k3]; simp) (by rw [h.k3]; simp) (by rw [h.k3]; simp)).trans (h.sg s hs)
  · exact fun s hs => (eI d4 s (by rw [h.k4]; simp) (by rw [h.k4]; simp) (by rw [h.k4]; simp)).trans (h.al s hs)
  · exact fun i hi => (vc i hi 0).trans (h.cx i hi)
  · exact fun i hi => (vc i hi 1).trans (h.cy i hi)
  · exact fun i hi => (vs i hi 0).trans (h.sf i hi)
  · exact fun i hi => (vs i hi 1).trans (h.st i hi)
  · exact fun i hi => (vs i hi 2).trans (h.sl i hi)
  · exact fun i hi => (vs i hi 3).trans (h.so i hi)
  · exact fun i hi => by
      have hi : i < P.T.nr + 1 := hi
      show zI σ' (up d.ro P.T.nr q i) 0 = nI (up P.T.rf P.T.nr (a) i)
      by_cases e : i = P.T.nr
      · rw [e, up_self, up_self, vq]; exact q0
      · rw [up_ne _ _ e, up_ne _ _ e, vr i (by omega)]; exact h.rf i (by omega)
  · exact fun i hi => by
      have hi : i < P.T.nr + 1 := hi
      show zI σ' (up d.ro P.T.nr q i) 1 = nI (up P.T.rt P.T.nr (b) i)
      by_cases e : i = P.T.nr
      · rw [e, up_self, up_self, vq]; exact q1
      · rw [up_ne _ _ e, up_ne _ _ e, vr i (by omega)]; exact h.rt i (by omega)
  · exact fun i hi => by
      have hi : i < P.T.nr + 1 := hi
      show zI σ' (up d.ro P.T.nr q i) 2 = nI (up P.T.rb P.T.nr (l) i)
      by_cases e : i = P.T.nr
      · rw [e, up_self, up_self, vq]; exact q2
      · rw [up_ne _ _ e, up_ne _ _ e, vr i (by omega)]; exact h.rb i (by omega)
