/-! PURE HALF: what was read is set (by program). -/
set_option maxRecDepth 100000
theorem RS.stO {n : Nat} {tx : Nat → Int32} {R : Nat} {d : Ad} {d3 d4 : Nat} {P : PT} {σ : ZS} (h : RS n tx R d d3 d4 P σ) {s : Nat} (hs : s < P.T.ns) (pw : PW1 ((stO P.T s, P.sg, P.al, P.cl) : PT)) : RS n tx R d d3 d4 ((stO P.T s, P.sg, P.al, P.cl) : PT) (sI σ (d.so s) 3 1) := by
  obtain ⟨mr, kr⟩ := h.kr
  obtain ⟨mt, kt⟩ := h.kt
  obtain ⟨-, oa, ma, ka⟩ := h.ls.2.2.2.2.2.2 s hs
  have ne : ∀ b, (zK σ b).1 ≠ 14 → ∀ i, zI (sI σ (d.so s) 3 1) b i = zI σ b i := fun b hb i => zI_ne _ (.inl (by rintro rfl; rw [ka] at hb; exact hb rfl))
  have lsq : ∀ {l e m ki : Nat} {ad : Nat → Nat}, LS2 σ l e m ki ad → LS2 (sI σ (d.so s) 3 1) l e m ki ad := by
    rintro l e m ki ad ⟨h1, h2, ⟨m1, h3⟩, h4, h5⟩
    exact ⟨h1, h2, ⟨m1, h3⟩, by rw [ne l (by rw [h3]; simp)]; exact h4, h5⟩
  refine ⟨?_, ?_, ?_, ?_, ?_, ?_, ?_, ?_, ?_, ?_, ?_, ?_, ?_, ?_, ?_, ?_, ?_, ?_, ?_, ?_, ?_, ?_, ?_, ?_, ?_, ?_, ?_, ?_, ?_, ?_, ?_, ?_, ?_, ?_, ?_, ?_, ?_, ?_, ?_, ?_, ?_, ?_, ?_, ?_, ?_, ?_, ?_, ?_, ?_, ?_, ?_, ?_, ?_, ?_, ?_⟩
  · exact h.fr
  · exact h.nz
  · exact h.zb
  · exact h.oR
  · exact h.kr
  · exact h.r0
  · exact h.r4
  · exact by rw [ne R (by rw [kr]; simp)]; exact h.r1
  · exact h.hn
  · exact fun i hi => by rw [zI_ne _ (.inl (by omega))]; exact h.tp i hi
  · exact h.by
  · exact pw
  · exact h.ot
  · exact h.kt
  · exact h.p0
  · exact h.p1
  · exact h.p2
  · exact h.p3
  · exact h.p4
  · exact h.p5
  · exact h.p6
  · exact h.o3
  · exact h.o4
  · exact h.o5
  · exact h.o6
  · exact h.k3
  · exact h.k4
  · exact h.k5
  · exact h.k6
  · exact h.n34
  · exact h.n56
  · exact lsq h.lc
  · exact lsq h.ls
  · exact lsq h.lr
  · exact h.ncs
  · exact h.ncr
  · exact h.nsr
  · exact h.ecs
  · exact h.ecr
  · exact h.esr
  · exact h.si
  · exact by rw [ne d.tw (by rw [kt]; simp)]; exact h.bx
  · exact by rw [ne d.tw (by rw [kt]; simp)]; exact h.nl
  · exact by rw [ne d.tw (by rw [kt]; simp)]; exact h.cl
  · exact fun i hi => by rw [ne d3 (by rw [h.k3]; simp)]; exact h.sg i hi
  · exact fun i hi => by rw [ne d4 (by rw [h.k4]; simp)]; exact h.al i hi
  · exact fun i hi => by
      obtain ⟨-, a2, m, a3⟩ := h.lc.2.2.2.2.2.2 i hi
      rw [ne _ (by rw [a3]; simp)]; exact h.cx i hi
  · exact fun i hi => by
      obtain ⟨-, a2, m, a3⟩ := h.lc.2.2.2.2.2.2 i hi
      rw [ne _ (by rw [a3]; simp)]; exact h.cy i hi
  · exact fun i hi => by rw [zI_ne _ (.inr (by decide))]; exact h.sf i hi
  · exact fun i hi => by rw [zI_ne _ (.inr (by decide))]; exact h.st i hi
  · exact fun i hi => by rw [zI_ne _ (.inr (by decide))]; exact h.sl i hi
  · exact fun i hi => by
      show _ = b2i (up P.T.so s true i)
      by_cases e : i = s
      · rw [e, up_self, zI_self]; rfl
      · rw [up_ne _ _ e, zI_ne _ (.inl fun k => e (h.si i s hi hs k))]; exact h.so i hi
  · exact fun i hi => by
      obtain ⟨-, a2, m, a3⟩ := h.lr.2.2.2.2.2.2 i hi
      rw [ne _ (by rw [a3]; simp)]; exact h.rf i hi
  · exact fun i hi => by
      obtain ⟨-, a2, m, a3⟩ := h.lr.2.2.2.2.2.2 i hi
      rw [ne _ (by rw [a3]; simp)]; exact h.rt i hi
  · exact fun i hi => by
      obtain ⟨-, a2, m, a3⟩ := h.lr.2.2.2.2.2.2 i hi
      rw [ne _ (by rw [a3]; simp)]; exact h.rb i hi
theorem RS.stB {n : Nat} {tx : Nat → Int32} {R : Nat} {d : Ad} {d3 d4 : Nat} {P : PT} {σ : ZS} (h : RS n tx R d d3 d4 P σ) {c : Nat} (pw : PW1 ((stB P.T c, P.sg, P.al, P.cl) : PT)) : RS n tx R d d3 d4 ((stB P.T c, P.sg, P.al, P.cl) : PT) (sI σ d.tw 7 (P.T.bx ||| ((1 : Int32) <<< (nI c &&& 31)))) := by
  obtain ⟨mr, kr⟩ := h.kr
  obtain ⟨mt, kt⟩ := h.kt
  have oa : 1239 ≤ d.tw := h.ot
  have ne : ∀ b, (zK σ b).1 ≠ 8 → ∀ i, zI (sI σ d.tw 7 (P.T.bx ||| ((1 : Int32) <<< (nI c &&& 31)))) b i = zI σ b i := fun b hb i => zI_ne _ (.inl (by rintro rfl; rw [kt] at hb; exact hb rfl))
  have lsq : ∀ {l e m ki : Nat} {ad : Nat → Nat}, LS2 σ l e m ki ad → LS2 (sI σ d.tw 7 (P.T.bx ||| ((1 : Int32) <<< (nI c &&& 31)))) l e m ki ad := by
    rintro l e m ki ad ⟨h1, h2, ⟨m1, h3⟩, h4, h5⟩
    exact ⟨h1, h2, ⟨m1, h3⟩, by rw [ne l (by rw [h3]; simp)]; exact h4, h5⟩
  refine ⟨?_, ?_, ?_, ?_, ?_, ?_, ?_, ?_, ?_, ?_, ?_, ?_, ?_, ?_, ?_, ?_, ?_, ?_, ?_, ?_, ?_, ?_, ?_, ?_, ?_, ?_, ?_, ?_, ?_, ?_, ?_, ?_, ?_, ?_, ?_, ?_, ?_, ?_, ?_, ?_, ?_, ?_, ?_, ?_, ?_, ?_, ?_, ?_, ?_, ?_, ?_, ?_, ?_, ?_, ?_⟩
  · exact h.fr
  · exact h.nz
  · exact h.zb
  · exact h.oR
  · exact h.kr
  · exact h.r0
  · exact h.r4
  · exact by rw [ne R (by rw [kr]; simp)]; exact h.r1
  · exact h.hn
  · exact fun i hi => by rw [zI_ne _ (.inl (by omega))]; exact h.tp i hi
  · exact h.by
  · exact pw
  · exact h.ot
  · exact h.kt
  · exact h.p0
  · exact h.p1
  · exact h.p2
  · exact h.p3
  · exact h.p4
  · exact h.p5
  · exact h.p6
  · exact h.o3
  · exact h.o4
  · exact h.o5
  · exact h.o6
  · exact h.k3
  · exact h.k4
  · exact h.k5
  · exact h.k6
  · exact h.n34
  · exact h.n56
  · exact lsq h.lc
  · exact lsq h.ls
  · exact lsq h.lr
  · exact h.ncs
  · exact h.ncr
  · exact h.nsr
  · exact h.ecs
  · exact h.ecr
  · exact h.esr
  · exact h.si
  · exact zI_self _ _ _ _
  · exact by rw [zI_ne _ (.inr (by decide))]; exact h.nl
  · exact by rw [zI_ne _ (.inr (by decide))]; exact h.cl
  · exact fun i hi => by rw [ne d3 (by rw [h.k3]; simp)]; exact h.sg i hi
  · exact fun i hi => by rw [ne d4 (by rw [h.k4]; simp)]; exact h.al i hi
  · exact fun i hi => by
      obtain ⟨-, a2, m, a3⟩ := h.lc.2.2.2.2.2.2 i hi
      rw [ne _ (by rw [a3]; simp)]; exact h.cx i hi
  · exact fun i hi => by
      obtain ⟨-, a2, m, a3⟩ := h.lc.2.2.2.2.2.2 i hi
      rw [ne _ (by rw [a3]; simp)]; exact h.cy i hi
  · exact fun i hi => by
      obtain ⟨-, a2, m, a3⟩ := h.ls.2.2.2.2.2.2 i hi
      rw [ne _ (by rw [a3]; simp)]; exact h.sf i hi
  · exact fun i hi => by
      obtain ⟨-, a2, m, a3⟩ := h.ls.2.2.2.2.2.2 i hi
      rw [ne _ (by rw [a3]; simp)]; exact h.st i hi
  · exact fun i hi => by
      obtain ⟨-, a2, m, a3⟩ := h.ls.2.2.2.2.2.2 i hi
      rw [ne _ (by rw [a3]; simp)]; exact h.sl i hi
  · exact fun i hi => by
      obtain ⟨-, a2, m, a3⟩ := h.ls.2.2.2.2.2.2 i hi
      rw [ne _ (by rw [a3]; simp)]; exact h.so i hi
  · exact fun i hi => by
      obtain ⟨-, a2, m, a3⟩ := h.lr.2.2.2.2.2.2 i hi
      rw [ne _ (by rw [a3]; simp)]; exact h.rf i hi
  · exact fun i hi => by
      obtain ⟨-, a2, m, a3⟩ := h.lr.2.2.2.2.2.2 i hi
      rw [ne _ (by rw [a3]; simp)]; exact h.rt i hi
  · exact fun i hi => by
      obtain ⟨-, a2, m, a3⟩ := h.lr.2.2.2.2.2.2 i hi
      rw [ne _ (by rw [a3]; simp)]; exact h.rb i hi
theorem RS.stC {n : Nat} {tx : Nat → Int32} {R : Nat} {d : Ad} {d3 d4 : Nat} {P : PT} {σ : ZS} (h : RS n tx R d d3 d4 P σ) {c : Nat} (pw : PW1 ((P.T, P.sg, P.al, c) : PT)) : RS n tx R d d3 d4 ((P.T, P.sg, P.al, c) : PT) (sI σ d.tw 9 (nI c)) := by
  obtain ⟨mr, kr⟩ := h.kr
  obtain ⟨mt, kt⟩ := h.kt
  have oa : 1239 ≤ d.tw := h.ot
  have ne : ∀ b, (zK σ b).1 ≠ 8 → ∀ i, zI (sI σ d.tw 9 (nI c)) b i = zI σ b i := fun b hb i => zI_ne _ (.inl (by rintro rfl; rw [kt] at hb; exact hb rfl))
  have lsq : ∀ {l e m ki : Nat} {ad : Nat → Nat}, LS2 σ l e m ki ad → LS2 (sI σ d.tw 9 (nI c)) l e m ki ad := by
    rintro l e m ki ad ⟨h1, h2, ⟨m1, h3⟩, h4, h5⟩
    exact ⟨h1, h2, ⟨m1, h3⟩, by rw [ne l (by rw [h3]; simp)]; exact h4, h5⟩
  refine ⟨?_, ?_, ?_, ?_, ?_, ?_, ?_, ?_, ?_, ?_, ?_, ?_, ?_, ?_, ?_, ?_, ?_, ?_, ?_, ?_, ?_, ?_, ?_, ?_, ?_, ?_, ?_, ?_, ?_, ?_, ?_, ?_, ?_, ?_, ?_, ?_, ?_, ?_, ?_, ?_, ?_, ?_, ?_, ?_, ?_, ?_, ?_, ?_, ?_, ?_, ?_, ?_, ?_, ?_, ?_⟩
  · exact h.fr
  · exact h.nz
  · exact h.zb
  · exact h.oR
  · exact h.kr
  · exact h.r0
  · exact h.r4
  · exact by rw [ne R (by rw [kr]; simp)]; exact h.r1
  · exact h.hn
  · exact fun i hi => by rw [zI_ne _ (.inl (by omega))]; exact h.tp i hi
  · exact h.by
  · exact pw
  · exact h.ot
  · exact h.kt
  · exact h.p0
  · exact h.p1
  · exact h.p2
  · exact h.p3
  · exact h.p4
  · exact h.p5
  · exact h.p6
  · exact h.o3
  · exact h.o4
  · exact h.o5
  · exact h.o6
  · exact h.k3
  · exact h.k4
  · exact h.k5
  · exact h.k6
  · exact h.n34
  · exact h.n56
  · exact lsq h.lc
  · exact lsq h.ls
  · exact lsq h.lr
  · exact h.ncs
  · exact h.ncr
  · exact h.nsr
  · exact h.ecs
  · exact h.ecr
  · exact h.esr
  · exact h.si
  · exact by rw [zI_ne _ (.inr (by decide))]; exact h.bx
  · exact by rw [zI_ne _ (.inr (by decide))]; exact h.nl
  · exact zI_self _ _ _ _
  · exact fun i hi => by rw [ne d3 (by rw [h.k3]; simp)]; exact h.sg i hi
  · exact fun i hi => by rw [ne d4 (by rw [h.k4]; simp)]; exact h.al i hi
  · exact fun i hi => by
      obtain ⟨-, a2, m, a3⟩ := h.lc.2.2.2.2.2.2 i hi
      rw [ne _ (by rw [a3]; simp)]; exact h.cx i hi
  · exact fun i hi => by
      obtain ⟨-, a2, m, a3⟩ := h.lc.2.2.2.2.2.2 i hi
      rw [ne _ (by rw [a3]; simp)]; exact h.cy i hi
  · exact fun i hi => by
      obtain ⟨-, a2, m, a3⟩ := h.ls.2.2.2.2.2.2 i hi
      rw [ne _ (by rw [a3]; simp)]; exact h.sf i hi
  · exact fun i hi => by
      obtain ⟨-, a2, m, a3⟩ := h.ls.2.2.2.2.2.2 i hi
      rw [ne _ (by rw [a3]; simp)]; exact h.st i hi
  · exact fun i hi => by
      obtain ⟨-, a2, m, a3⟩ := h.ls.2.2.2.2.2.2 i hi
      rw [ne _ (by rw [a3]; simp)]; exact h.sl i hi
  · exact fun i hi => by
      obtain ⟨-, a2, m, a3⟩ := h.ls.2.2.2.2.2.2 i hi
      rw [ne _ (by rw [a3]; simp)]; exact h.so i hi
  · exact fun i hi => by
      obtain ⟨-, a2, m, a3⟩ := h.lr.2.2.2.2.2.2 i hi
      rw [ne _ (by rw [a3]; simp)]; exact h.rf i hi
  · exact fun i hi => by
      obtain ⟨-, a2, m, a3⟩ := h.lr.2.2.2.2.2.2 i hi
      rw [ne _ (by rw [a3]; simp)]; exact h.rt i hi
  · exact fun i hi => by
      obtain ⟨-, a2, m, a3⟩ := h.lr.2.2.2.2.2.2 i hi
      rw [ne _ (by rw [a3]; simp)]; exact h.rb i hi
theorem RS.orS {n : Nat} {tx : Nat → Int32} {R : Nat} {d : Ad} {d3 d4 : Nat} {P : PT} {σ : ZS} (h : RS n tx R d d3 d4 P σ) {s o : Nat} (pw : PW1 ((P.T, orB P.sg s o, P.al, P.cl) : PT)) : RS n tx R d d3 d4 ((P.T, orB P.sg s o, P.al, P.cl) : PT) (sI σ d3 s (P.sg s ||| ((1 : Int32) <<< (nI o &&& 31)))) := by
  obtain ⟨mr, kr⟩ := h.kr
  obtain ⟨mt, kt⟩ := h.kt
  have oa : 1239 ≤ d3 := h.o3
  have ne : ∀ b, (zK σ b).1 ≠ 0 → ∀ i, zI (sI σ d3 s (P.sg s ||| ((1 : Int32) <<< (nI o &&& 31)))) b i = zI σ b i := fun b hb i => zI_ne _ (.inl (by rintro rfl; rw [h.k3] at hb; exact hb rfl))
  have lsq : ∀ {l e m ki : Nat} {ad : Nat → Nat}, LS2 σ l e m ki ad → LS2 (sI σ d3 s (P.sg s ||| ((1 : Int32) <<< (nI o &&& 31)))) l e m ki ad := by
    rintro l e m ki ad ⟨h1, h2, ⟨m1, h3⟩, h4, h5⟩
    exact ⟨h1, h2, ⟨m1, h3⟩, by rw [ne l (by rw [h3]; simp)]; exact h4, h5⟩
  refine ⟨?_, ?_, ?_, ?_, ?_, ?_, ?_, ?_, ?_, ?_, ?_, ?_, ?_, ?_, ?_, ?_, ?_, ?_, ?_, ?_, ?_, ?_, ?_, ?_, ?_, ?_, ?_, ?_, ?_, ?_, ?_, ?_, ?_, ?_, ?_, ?_, ?_, ?_, ?_, ?_, ?_, ?_, ?_, ?_, ?_, ?_, ?_, ?_, ?_, ?_, ?_, ?_, ?_, ?_, ?_⟩
  · exact h.fr
  · exact h.nz
  · exact h.zb
  · exact h.oR
  · exact h.kr
  · exact h.r0
  · exact h.r4
  · exact by rw [ne R (by rw [kr]; simp)]; exact h.r1
  · exact h.hn
  · exact fun i hi => by rw [zI_ne _ (.inl (by omega))]; exact h.tp i hi
  · exact h.by
  · exact pw
  · exact h.ot
  · exact h.kt
  · exact h.p0
  · exact h.p1
  · exact h.p2
  · exact h.p3
  · exact h.p4
  · exact h.p5
  · exact h.p6
  · exact h.o3
  · exact h.o4
  · exact h.o5
  · exact h.o6
  · exact h.k3
  · exact h.k4
  · exact h.k5
  · exact h.k6
  · exact h.n34
  · exact h.n56
  · exact lsq h.lc
  · exact lsq h.ls
  · exact lsq h.lr
  · exact h.ncs
  · exact h.ncr
  · exact h.nsr
  · exact h.ecs
  · exact h.ecr
  · exact h.esr
  · exact h.si
  · exact by rw [ne d.tw (by rw [kt]; simp)]; exact h.bx
  · exact by rw [ne d.tw (by rw [kt]; simp)]; exact h.nl
  · exact by rw [ne d.tw (by rw [kt]; simp)]; exact h.cl
  · exact fun i hi => by
      rw [zI_row]
      show _ = up P.sg s _ i
      unfold up
      split
      · rfl
      · exact h.sg i hi
  · exact fun i hi => by rw [zI_ne _ (.inl (Ne.symm h.n34))]; exact h.al i hi
  · exact fun i hi => by
      obtain ⟨-, a2, m, a3⟩ := h.lc.2.2.2.2.2.2 i hi
      rw [ne _ (by rw [a3]; simp)]; exact h.cx i hi
  · exact fun i hi => by
      obtain ⟨-, a2, m, a3⟩ := h.lc.2.2.2.2.2.2 i hi
      rw [ne _ (by rw [a3]; simp)]; exact h.cy i hi
  · exact fun i hi => by
      obtain ⟨-, a2, m, a3⟩ := h.ls.2.2.2.2.2.2 i hi
      rw [ne _ (by rw [a3]; simp)]; exact h.sf i hi
  · exact fun i hi => by
      obtain ⟨-, a2, m, a3⟩ := h.ls.2.2.2.2.2.2 i hi
      rw [ne _ (by rw [a3]; simp)]; exact h.st i hi
  · exact fun i hi => by
      obtain ⟨-, a2, m, a3⟩ := h.ls.2.2.2.2.2.2 i hi
      rw [ne _ (by rw [a3]; simp)]; exact h.sl i hi
  · exact fun i hi => by
      obtain ⟨-, a2, m, a3⟩ := h.ls.2.2.2.2.2.2 i hi
      rw [ne _ (by rw [a3]; simp)]; exact h.so i hi
  · exact fun i hi => by
      obtain ⟨-, a2, m, a3⟩ := h.lr.2.2.2.2.2.2 i hi
      rw [ne _ (by rw [a3]; simp)]; exact h.rf i hi
  · exact fun i hi => by
      obtain ⟨-, a2, m, a3⟩ := h.lr.2.2.2.2.2.2 i hi
      rw [ne _ (by rw [a3]; simp)]; exact h.rt i hi
  · exact fun i hi => by
      obtain ⟨-, a2, m, a3⟩ := h.lr.2.2.2.2.2.2 i hi
      rw [ne _ (by rw [a3]; simp)]; exact h.rb i hi
theorem RS.orA {n : Nat} {tx : Nat → Int32} {R : Nat} {d : Ad} {d3 d4 : Nat} {P : PT} {σ : ZS} (h : RS n tx R d d3 d4 P σ) {s o : Nat} (pw : PW1 ((P.T, P.sg, orB P.al s o, P.cl) : PT)) : RS n tx R d d3 d4 ((P.T, P.sg, orB P.al s o, P.cl) : PT) (sI σ d4 s (P.al s ||| ((1 : Int32) <<< (nI o &&& 31)))) := by
  obtain ⟨mr, kr⟩ := h.kr
  obtain ⟨mt, kt⟩ := h.kt
  have oa : 1239 ≤ d4 := h.o4
  have ne : ∀ b, (zK σ b).1 ≠ 0 → ∀ i, zI (sI σ d4 s (P.al s ||| ((1 : Int32) <<< (nI o &&& 31)))) b i = zI σ b i := fun b hb i => zI_ne _ (.inl (by rintro rfl; rw [h.k4] at hb; exact hb rfl))
  have lsq : ∀ {l e m ki : Nat} {ad : Nat → Nat}, LS2 σ l e m ki ad → LS2 (sI σ d4 s (P.al s ||| ((1 : Int32) <<< (nI o &&& 31)))) l e m ki ad := by
    rintro l e m ki ad ⟨h1, h2, ⟨m1, h3⟩, h4, h5⟩
    exact ⟨h1, h2, ⟨m1, h3⟩, by rw [ne l (by rw [h3]; simp)]; exact h4, h5⟩
  refine ⟨?_, ?_, ?_, ?_, ?_, ?_, ?_, ?_, ?_, ?_, ?_, ?_, ?_, ?_, ?_, ?_, ?_, ?_, ?_, ?_, ?_, ?_, ?_, ?_, ?_, ?_, ?_, ?_, ?_, ?_, ?_, ?_, ?_, ?_, ?_, ?_, ?_, ?_, ?_, ?_, ?_, ?_, ?_, ?_, ?_, ?_, ?_, ?_, ?_, ?_, ?_, ?_, ?_, ?_, ?_⟩
  · exact h.fr
  · exact h.nz
  · exact h.zb
  · exact h.oR
  · exact h.kr
  · exact h.r0
  · exact h.r4
  · exact by rw [ne R (by rw [kr]; simp)]; exact h.r1
  · exact h.hn
  · exact fun i hi => by rw [zI_ne _ (.inl (by omega))]; exact h.tp i hi
  · exact h.by
  · exact pw
  · exact h.ot
  · exact h.kt
  · exact h.p0
  · exact h.p1
  · exact h.p2
  · exact h.p3
  · exact h.p4
  · exact h.p5
  · exact h.p6
  · exact h.o3
  · exact h.o4
  · exact h.o5
  · exact h.o6
  · exact h.k3
  · exact h.k4
  · exact h.k5
  · exact h.k6
  · exact h.n34
  · exact h.n56
  · exact lsq h.lc
  · exact lsq h.ls
  · exact lsq h.lr
  · exact h.ncs
  · exact h.ncr
  · exact h.nsr
  · exact h.ecs
  · exact h.ecr
  · exact h.esr
  · exact h.si
  · exact by rw [ne d.tw (by rw [kt]; simp)]; exact h.bx
  · exact by rw [ne d.tw (by rw [kt]; simp)]; exact h.nl
  · exact by rw [ne d.tw (by rw [kt]; simp)]; exact h.cl
  · exact fun i hi => by rw [zI_ne _ (.inl (h.n34))]; exact h.sg i hi
  · exact fun i hi => by
      rw [zI_row]
      show _ = up P.al s _ i
      unfold up
      split
      · rfl
      · exact h.al i hi
  · exact fun i hi => by
      obtain ⟨-, a2, m, a3⟩ := h.lc.2.2.2.2.2.2 i hi
      rw [ne _ (by rw [a3]; simp)]; exact h.cx i hi
  · exact fun i hi => by
      obtain ⟨-, a2, m, a3⟩ := h.lc.2.2.2.2.2.2 i hi
      rw [ne _ (by rw [a3]; simp)]; exact h.cy i hi
  · exact fun i hi => by
      obtain ⟨-, a2, m, a3⟩ := h.ls.2.2.2.2.2.2 i hi
      rw [ne _ (by rw [a3]; simp)]; exact h.sf i hi
  · exact fun i hi => by
      obtain ⟨-, a2, m, a3⟩ := h.ls.2.2.2.2.2.2 i hi
      rw [ne _ (by rw [a3]; simp)]; exact h.st i hi
  · exact fun i hi => by
      obtain ⟨-, a2, m, a3⟩ := h.ls.2.2.2.2.2.2 i hi
      rw [ne _ (by rw [a3]; simp)]; exact h.sl i hi
  · exact fun i hi => by
      obtain ⟨-, a2, m, a3⟩ := h.ls.2.2.2.2.2.2 i hi
      rw [ne _ (by rw [a3]; simp)]; exact h.so i hi
  · exact fun i hi => by
      obtain ⟨-, a2, m, a3⟩ := h.lr.2.2.2.2.2.2 i hi
      rw [ne _ (by rw [a3]; simp)]; exact h.rf i hi
  · exact fun i hi => by
      obtain ⟨-, a2, m, a3⟩ := h.lr.2.2.2.2.2.2 i hi
      rw [ne _ (by rw [a3]; simp)]; exact h.rt i hi
  · exact fun i hi => by
      obtain ⟨-, a2, m, a3⟩ := h.lr.2.2.2.2.2.2 i hi
      rw [ne _ (by rw [a3]; simp)]; exact h.rb i hi
