/-! ===== the twin's heap by the spec: what each of its cells holds ===== -/
set_option maxRecDepth 100000
/-- which cell is what (0: none of these), where each is, what arrays hold, what is frozen, where names and the like are -/
abbrev sG : Type := (Nat → Nat × Nat) × (Nat → Nat → Nat) × (Nat → Nat → List Value) × (Nat → zC) × (Nat → Nat → Nat → Nat) × Nat × (Nat → Nat → Nat)
def sG.kind (x : sG) : Nat → Nat × Nat := x.1
def sG.ref (x : sG) : Nat → Nat → Nat := x.2.1
def sG.ar (x : sG) : Nat → Nat → List Value := x.2.2.1
def sG.frz (x : sG) : Nat → zC := x.2.2.2.1
def sG.rf (x : sG) : Nat → Nat → Nat → Nat := x.2.2.2.2.1
def sG.cr (x : sG) : Nat := x.2.2.2.2.2.1
def sG.cf (x : sG) : Nat → Nat → Nat := x.2.2.2.2.2.2
def sG.w_kind (x : sG) (v : Nat → Nat × Nat) : sG := (v, x.2.1, x.2.2.1, x.2.2.2.1, x.2.2.2.2.1, x.2.2.2.2.2.1, x.2.2.2.2.2.2)
def sG.w_ref (x : sG) (v : Nat → Nat → Nat) : sG := (x.1, v, x.2.2.1, x.2.2.2.1, x.2.2.2.2.1, x.2.2.2.2.2.1, x.2.2.2.2.2.2)
def sG.w_ar (x : sG) (v : Nat → Nat → List Value) : sG := (x.1, x.2.1, v, x.2.2.2.1, x.2.2.2.2.1, x.2.2.2.2.2.1, x.2.2.2.2.2.2)
def sG.w_frz (x : sG) (v : Nat → zC) : sG := (x.1, x.2.1, x.2.2.1, v, x.2.2.2.2.1, x.2.2.2.2.2.1, x.2.2.2.2.2.2)
def sG.w_rf (x : sG) (v : Nat → Nat → Nat → Nat) : sG := (x.1, x.2.1, x.2.2.1, x.2.2.2.1, v, x.2.2.2.2.2.1, x.2.2.2.2.2.2)
def sG.w_cr (x : sG) (v : Nat) : sG := (x.1, x.2.1, x.2.2.1, x.2.2.2.1, x.2.2.2.2.1, v, x.2.2.2.2.2.2)
def sG.w_cf (x : sG) (v : Nat → Nat → Nat) : sG := (x.1, x.2.1, x.2.2.1, x.2.2.2.1, x.2.2.2.2.1, x.2.2.2.2.2.1, v)
/-- what lasts no longer than a frame: what is read, its class and method, what is drafted, where its size stands, the kind of throw, what was routed, how many confirms of a channel are told -/
abbrev tW : Type := sBy × Int32 × sRd × Int32 × Int32 × Int32 × (List Nat) × (Nat → Nat)
def tW.dr (x : tW) : sBy := x.1
def tW.sz (x : tW) : Int32 := x.2.1
def tW.rd (x : tW) : sRd := x.2.2.1
def tW.cl (x : tW) : Int32 := x.2.2.2.1
def tW.me (x : tW) : Int32 := x.2.2.2.2.1
def tW.thr (x : tW) : Int32 := x.2.2.2.2.2.1
def tW.rt (x : tW) : List Nat := x.2.2.2.2.2.2.1
def tW.cd (x : tW) : Nat → Nat := x.2.2.2.2.2.2.2
def tW.w_dr (x : tW) (v : sBy) : tW := (v, x.2.1, x.2.2.1, x.2.2.2.1, x.2.2.2.2.1, x.2.2.2.2.2.1, x.2.2.2.2.2.2.1, x.2.2.2.2.2.2.2)
def tW.w_sz (x : tW) (v : Int32) : tW := (x.1, v, x.2.2.1, x.2.2.2.1, x.2.2.2.2.1, x.2.2.2.2.2.1, x.2.2.2.2.2.2.1, x.2.2.2.2.2.2.2)
def tW.w_rd (x : tW) (v : sRd) : tW := (x.1, x.2.1, v, x.2.2.2.1, x.2.2.2.2.1, x.2.2.2.2.2.1, x.2.2.2.2.2.2.1, x.2.2.2.2.2.2.2)
def tW.w_cl (x : tW) (v : Int32) : tW := (x.1, x.2.1, x.2.2.1, v, x.2.2.2.2.1, x.2.2.2.2.2.1, x.2.2.2.2.2.2.1, x.2.2.2.2.2.2.2)
def tW.w_me (x : tW) (v : Int32) : tW := (x.1, x.2.1, x.2.2.1, x.2.2.2.1, v, x.2.2.2.2.2.1, x.2.2.2.2.2.2.1, x.2.2.2.2.2.2.2)
def tW.w_thr (x : tW) (v : Int32) : tW := (x.1, x.2.1, x.2.2.1, x.2.2.2.1, x.2.2.2.2.1, v, x.2.2.2.2.2.2.1, x.2.2.2.2.2.2.2)
def tW.w_rt (x : tW) (v : List Nat) : tW := (x.1, x.2.1, x.2.2.1, x.2.2.2.1, x.2.2.2.2.1, x.2.2.2.2.2.1, v, x.2.2.2.2.2.2.2)
def tW.w_cd (x : tW) (v : Nat → Nat) : tW := (x.1, x.2.1, x.2.2.1, x.2.2.2.1, x.2.2.2.2.1, x.2.2.2.2.2.1, x.2.2.2.2.2.2.1, v)
def vI (n : Nat) : Value := .int (Int32.ofNat n)
def vZ (b : Bool) : Value := .int (sB b)
def vB (b : sBy) : List Value := b.map (fun x => .int (sx x))
/-- a thing's reference; of none: null -/
def gO (g : sG) (c : Nat) : Option Nat → Nat
  | none => 0
  | some i => g.ref c i
def gF (g : sG) (n : Nat) (q : zC) : Prop := g.kind n = (40, n) ∧ g.frz n = q
def gB (g : sG) (n : Nat) (b : sBy) : Prop := gF g n (1000, vB b)
def gBo (g : sG) (n : Nat) : Option sBy → Prop
  | none => n = 0
  | some b => gB g n b
def gTab (g : sG) (n : Nat) (t : sTab) : Prop :=
  ∃ a1 a2 a3 a4 r l1 l2 l3 l4, gF g n (35, [vI t.rows.length, zr a1, zr a2, zr a3, zr a4, zr r]) ∧ gF g a1 (1022, l1) ∧ gF g a2 (1001, l2) ∧ gF g a3 (1001, l3) ∧ gF g a4 (1022, l4) ∧ gB g r t.raw ∧
    l1.length = 54 ∧ l2.length = 54 ∧ l3.length = 54 ∧ l4.length = 54 ∧ t.rows.length ≤ 54 ∧
    ∀ (j : Nat) w, t.rows[j]? = some w → ∃ n1 n4 : Nat, l1[j]? = some (zr n1) ∧ gB g n1 w.1 ∧ l2[j]? = some (.int w.2.1) ∧ l3[j]? = some (.int w.2.2.1) ∧ l4[j]? = some (zr n4) ∧ (w.2.1 = 83 → gB g n4 w.2.2.2)
def gTo (g : sG) (n : Nat) : Option sTab → Prop
  | none => n = 0
  | some t => gTab g n t
def gCont (g : sG) (n : Nat) (c : sCont) : Prop :=
  ∃ e k hd bd got, gF g n (40, [zr e, zr k, vZ c.mand, vZ c.pers, .int c.prio, .long c.expi, zr hd, zr bd, .int got]) ∧ gB g e c.exch ∧ gB g k c.key ∧ gTo g hd c.heads ∧ gB g bd c.body
def gKe (g : sG) (n : Nat) (k : sKe) : Prop := ∃ c t, gF g n (41, [zr c, .int k.what, zr t]) ∧ match k.cont with
  | none => c = 0 ∧ gF g t (1020, k.those.map (fun i => zr (g.ref 37 i)))
  | some x => gCont g c x
def gDe (g : sG) (n : Nat) (d : sDe) : Prop := ∃ e k, gF g n (32, [zr (g.ref 36 d.entry), zr e, zr k]) ∧ gB g e d.exch ∧ gBo g k d.key
def gFa (g : sG) (n : Nat) (f : sFa) : Prop := ∃ e q b m, gF g n (31, [.int f.kind, zr e, zr q, zr b, zr m]) ∧
  (f.kind = 0 ∨ f.kind = 1 → e = g.ref 32 f.id) ∧ (f.kind = 2 ∨ f.kind = 3 → q = g.ref 33 f.id) ∧ (f.kind = 4 ∨ f.kind = 5 → b = g.ref 34 f.id) ∧ (f.kind = 6 ∨ f.kind = 7 → m = g.ref 36 f.id) ∧ 0 ≤ f.kind ∧ f.kind ≤ 7
/-- the component's type of the twin's arrays -/
def tarT : Nat → Nat
  | 4 => 11 | 5 => 12 | 6 => 13 | 7 => 14 | 8 => 15 | 9 => 16 | 10 => 17 | 11 => 12 | 12 => 13 | 13 => 14 | 14 => 18
  | 18 => 1 | 19 => 1 | 20 => 1 | 21 => 1 | 22 => 3 | 23 => 3 | 24 => 13 | 27 => 19 | 28 => 20 | 29 => 21 | 30 => 1 | 31 => 18 | _ => 0
def tMain (s : sSt) (w : tW) (g : sG) : List Value :=
  [zr (g.ref 4 0), zr (g.ref 5 0), zr (g.ref 6 0), zr (g.ref 7 0), zr (g.ref 8 0), vI s.es.length, vI s.qs.length, vI s.bs.length, vI s.cs.length, .int s.messages, .int s.lastNum, .int s.gener, .int s.clock, .int s.deadOnes,
   zr (g.ref 9 0), vI s.dead.length, zr (g.ref 10 0), vI s.facts.length, zr (g.ref 11 0), zr (g.ref 12 0), zr (g.ref 13 0), zr (g.ref 14 0), vI s.ses.length, vI s.sqs.length, vI s.sbs.length, vI s.sen.length,
   zr (g.ref 15 0), vI s.tape.length, .int w.thr, zr (g.ref 16 0), vI w.rd.1.length, vI w.rd.2.1, .int w.cl, .int w.me, vZ w.rd.2.2, zr (g.ref 17 0), vI w.dr.length, .int w.sz,
   zr (g.ref 18 0), zr (g.ref 19 0), zr (g.ref 20 0), zr (g.ref 21 0), zr (g.ref 22 0), zr (g.ref 23 0), zr (g.ref 24 0), .int s.crashes]
def tCn (k : sCn) (g : sG) (c : Nat) : List Value :=
  [vI c, .int k.state, .int k.beat, vI k.inp.length, .int k.first, vI k.out.length, .int k.lastIn, .int k.lastOut, .int k.closing, vZ k.deaf, zr (g.ref 25 c), zr (g.ref 26 c), zr (g.ref 27 c)]
def tCh (k : sCh) (w : tW) (g : sG) (h : Nat) : List Value :=
  [zr (g.ref 2 (h / 4)), vI (h % 4), .int k.state, .int k.mode, .int k.limit, .int k.coming, .int k.tag, .int k.confirm, .int k.tags, vI k.kept.length, vI k.sent.length, vI (w.cd h + k.confs.length), .int k.due, vZ k.active,
   zr (g.rf 3 h 14), zr (g.rf 3 h 15), zr (g.ref 28 h), zr (g.ref 29 h), zr (g.ref 30 h)]
def tEx (x : sEx) (g : sG) (i : Nat) : List Value := [zr (g.rf 32 i 0), .int x.kind, vZ x.dur, vZ x.auto, vZ x.int, vZ x.there, zr (g.rf 32 i 6)]
def tQu (x : sQu) (g : sG) (i : Nat) : List Value :=
  [zr (g.rf 33 i 0), vZ x.dur, vZ x.exc, vZ x.auto, vZ x.there, zr (gO g 2 x.owner), .int x.max, .int x.ttl, .int x.pri, zr (g.rf 33 i 9), zr (g.rf 33 i 10), zr (g.ref 31 i), vI x.ents.length, zr (gO g 35 x.last)]
def tBi (x : sBi) (g : sG) (i : Nat) : List Value := [zr (g.ref 33 x.queue), zr (g.ref 32 x.exch), zr (g.rf 34 i 2), zr (g.rf 34 i 3)]
def tCo (x : sCo) (g : sG) (i : Nat) : List Value := [zr (g.rf 35 i 0), zr (g.ref 33 x.queue), zr (g.ref 3 x.chan), vZ x.free, vZ x.excl, .int x.limit]
def tEn (x : sEn) (g : sG) (i : Nat) : List Value :=
  [zr (g.rf 36 i 0), zr (g.rf 36 i 1), zr (g.rf 36 i 2), .long x.expi, zr (g.ref 33 x.queue), .int x.number, .int x.came, .int x.deaths, .int x.state, vZ x.redel]
def tSe (x : sSe) (g : sG) : List Value := [.int x.tag, zr (g.ref 36 x.entry), zr (gO g 35 x.cons), vZ x.done]
/-- the content that comes to a channel -/
def tUn (k : sCh) (g : sG) (h : Nat) : List Value := match k.cont with
  | none => []
  | some c => [zr (g.rf 38 h 0), zr (g.rf 38 h 1), vZ c.mand, vZ c.pers, .int c.prio, .long c.expi, zr (g.rf 38 h 6), zr (if k.due = 3 then g.ref 39 h else 0), vI c.body.length]
def tcell (s : sSt) (w : tW) (g : sG) (c i : Nat) : zC := match c with
  | 1 => (7, tMain s w g)
  | 2 => (8, tCn (s.cn i) g i)
  | 3 => (9, tCh (s.ch i) w g i)
  | 32 => (36, tEx (s.ex i) g i)
  | 33 => (37, tQu (s.qu i) g i)
  | 34 => (38, tBi (s.bi i) g i)
  | 35 => (39, tCo (s.co i) g i)
  | 36 => (33, tEn (s.en i) g i)
  | 37 => (34, tSe (s.se i) g)
  | 38 => (40, tUn (s.ch i) g i)
  | 40 => g.frz i
  | c => (1000 + tarT c, g.ar c i)
/-- a thing is there -/
def gA1 (g : sG) (c i : Nat) : Prop := g.kind (g.ref c i) = (c, i)
/-- an array of n places begins with xs -/
def gAr (g : sG) (c i n : Nat) (xs : List Value) : Prop := gA1 g c i ∧ (g.ar c i).length = n ∧ xs <+: g.ar c i
def isH (h : Nat) : Prop := h < 16 ∧ h % 4 ≠ 0
/-- the ring that goes out -/
def gRing (l : List Value) (first : Int32) (b : sBy) : Prop := l.length = 5000 ∧ 0 ≤ first ∧ first < 5000 ∧ ∀ (j : Nat) x, b[j]? = some x → l[(first.toNatClampNeg + j) % 5000]? = some (.int (sx x))
def tG1 (s : sSt) (g : sG) : Prop := gA1 g 1 0 ∧ (∀ n i, g.kind n = (1, i) → i = 0) ∧ (∀ n, g.ref 40 n = n) ∧ (∀ c, c < 4 → gA1 g 2 c) ∧ (∀ h, isH h → gA1 g 3 h) ∧ (∀ c i, 32 ≤ c → c ≤ 37 → s.knd i = c → gA1 g c i) ∧ (∀ c i n, 32 ≤ c → c ≤ 37 → g.kind n = (c, i) → s.knd i = c)
def tGar (s : sSt) (w : tW) (g : sG) : Prop :=
  gAr g 4 0 4 ((List.range 4).map (fun c => zr (g.ref 2 c))) ∧ gAr g 5 0 12 (s.es.map (fun e => zr (g.ref 32 e))) ∧ gAr g 6 0 12 (s.qs.map (fun q => zr (g.ref 33 q))) ∧
  gAr g 7 0 40 (s.bs.map (fun b => zr (g.ref 34 b))) ∧ gAr g 8 0 16 (s.cs.map (fun i => zr (g.ref 35 i))) ∧ gAr g 11 0 12 (s.ses.map (fun e => zr (g.ref 32 e))) ∧ gAr g 12 0 12 (s.sqs.map (fun q => zr (g.ref 33 q))) ∧
  gAr g 13 0 40 (s.sbs.map (fun b => zr (g.ref 34 b))) ∧ gAr g 14 0 301 (s.sen.map (fun m => zr (g.ref 36 m))) ∧ gAr g 15 0 420 (vB s.tape) ∧ gAr g 16 0 400 (vB w.rd.1) ∧ gAr g 17 0 1200 (vB w.dr) ∧ gAr g 24 0 12 (w.rt.map (fun q => zr (g.ref 33 q))) ∧ w.rd.2.1 ≤ w.rd.1.length
def tGsc (g : sG) : Prop := gAr g 18 0 42 [] ∧ gAr g 19 0 42 [] ∧ gAr g 20 0 42 [] ∧ gAr g 21 0 42 [] ∧ gAr g 22 0 43 [] ∧ gAr g 23 0 43 []
/-- arrays of frozen things -/
def gArF {α : Type} (g : sG) (c i n : Nat) (P : sG → Nat → α → Prop) (xs : List α) : Prop := gA1 g c i ∧ (g.ar c i).length = n ∧ xs.length ≤ n ∧ ∀ (j : Nat) x, xs[j]? = some x → ∃ r, (g.ar c i)[j]? = some (zr r) ∧ P g r x
def tGfz (s : sSt) (g : sG) : Prop := gArF g 9 0 300 gDe s.dead ∧ ∃ n, (64 ≤ n ∧ n < 2000000) ∧ 2 * s.facts.length ≤ n + g.cf 10 0 ∧ gArF g 10 0 n gFa s.facts
def tGcn (s : sSt) (g : sG) : Prop := ∀ c, c < 4 → gAr g 25 c 900 (vB (s.cn c).inp) ∧ (gA1 g 26 c ∧ gRing (g.ar 26 c) (s.cn c).first (s.cn c).out) ∧ gAr g 27 c 4 (zr 0 :: [1, 2, 3].map (fun k => zr (g.ref 3 (4 * c + k))))
def gUn (k : sCh) (g : sG) (h : Nat) : Prop := k.junk = false → match k.cont with
  | none => g.rf 3 h 15 = 0
  | some c => g.rf 3 h 15 = g.ref 38 h ∧ gA1 g 38 h ∧ gB g (g.rf 38 h 0) c.exch ∧ gB g (g.rf 38 h 1) c.key ∧ gTo g (g.rf 38 h 6) c.heads ∧ (k.due = 3 → gAr g 39 h k.want (vB c.body))
def tGch (s : sSt) (w : tW) (g : sG) : Prop := ∀ h, isH h → gBo g (g.rf 3 h 14) (s.ch h).lastq ∧ gUn (s.ch h) g h ∧ (∃ n, (16 ≤ n ∧ n < 2000000) ∧ 2 * (s.ch h).sent.length ≤ n + g.cf 28 h ∧ gAr g 28 h n ((s.ch h).sent.map (fun i => zr (g.ref 37 i)))) ∧ gArF g 29 h 32 gKe (s.ch h).kept ∧
  (∃ n pre, (16 ≤ n ∧ n < 2000000) ∧ 2 * (w.cd h + (s.ch h).confs.length) ≤ n + g.cf 30 h ∧ pre.length = w.cd h ∧ gAr g 30 h n (pre ++ (s.ch h).confs.map (fun x => .int x)))
def tGex (s : sSt) (g : sG) : Prop := ∀ i, s.knd i = 32 → gB g (g.rf 32 i 0) (s.ex i).name ∧ gBo g (g.rf 32 i 6) (s.ex i).alt
def tGqu (s : sSt) (g : sG) : Prop := ∀ i, s.knd i = 33 → gB g (g.rf 33 i 0) (s.qu i).name ∧ gBo g (g.rf 33 i 9) (s.qu i).dlx ∧ gBo g (g.rf 33 i 10) (s.qu i).dlk ∧ gAr g 31 i 301 ((s.qu i).ents.map (fun m => zr (g.ref 36 m)))
def tGbi (s : sSt) (g : sG) : Prop := ∀ i, s.knd i = 34 → gB g (g.rf 34 i 2) (s.bi i).key ∧ gTab g (g.rf 34 i 3) (s.bi i).tab
def tGco (s : sSt) (g : sG) : Prop := ∀ i, s.knd i = 35 → gB g (g.rf 35 i 0) (s.co i).tag
def tGen (s : sSt) (g : sG) : Prop := ∀ i, s.knd i = 36 → gCont g (g.rf 36 i 0) (s.en i).cont ∧ gB g (g.rf 36 i 1) (s.en i).exch ∧ gB g (g.rf 36 i 2) (s.en i).key
/-- what is laid by for arrays that grow -/
def tGcr (g : sG) : Prop := g.cf 10 0 + (s_hs.map (fun h => g.cf 28 h + g.cf 30 h)).sum ≤ g.cr
def tG (s : sSt) (w : tW) (g : sG) : Prop := tG1 s g ∧ tGar s w g ∧ tGsc g ∧ tGfz s g ∧ tGcn s g ∧ tGch s w g ∧ tGex s g ∧ tGqu s g ∧ tGbi s g ∧ tGco s g ∧ tGen s g ∧ tGcr g
/-- room for b cells of six slots each -/
def zBud (s0 : zE) (h : zH) (b : Nat) : Prop := h.2.1 + b ≤ s0.1.heap.size + 953998 ∧ h.2.2 + 6 * b ≤ 6224387
/-- what a side's things are in the heap: each cell as its picture says; F: the rest of the heap, which stays -/
def gH (s0 : zE) (F : Nat → Option zC) (b : Nat) (P : Nat → Nat → zC) (g : sG) (h : zH) : Prop :=
  (∀ n, (g.kind n).1 ≠ 0 → h.1 n = some (P (g.kind n).1 (g.kind n).2) ∧ g.ref (g.kind n).1 (g.kind n).2 = n ∧ 0 < n ∧ n < h.2.1 ∧ ((g.kind n).1 = 40 ∨ s0.1.heap.size < n)) ∧
  (∀ n q, F n = some q → h.1 n = some q ∧ (g.kind n).1 = 0 ∧ n < h.2.1) ∧ zBud s0 h b
def tR (s0 : zE) (F : Nat → Option zC) (b : Nat) (s : sSt) (w : tW) (g : sG) (h : zH) : Prop := gH s0 F (b + g.cr) (tcell s w g) g h ∧ tG s w g
section GH
variable {s0 : zE} {F : Nat → Option zC} {b : Nat} {P P' : Nat → Nat → zC} {g g' : sG} {h h' : zH}
theorem gH.cell (H : gH s0 F b P g h) {n c i : Nat} (hk : g.kind n = (c, i)) (hc : c ≠ 0) : h.1 n = some (P c i) := by
  have := (H.1 n (by rw [hk]; exact hc)).1
  rw [hk] at this
  exact this
theorem gH.at (H : gH s0 F b P g h) {n c i : Nat} (hk : g.kind n = (c, i)) (hc : c ≠ 0) : g.ref c i = n := by
  have := (H.1 n (by rw [hk]; exact hc)).2.1
  rw [hk] at this
  exact this
theorem gH.pos (H : gH s0 F b P g h) {n c i : Nat} (hk : g.kind n = (c, i)) (hc : c ≠ 0) : n ≠ 0 := by
  have := (H.1 n (by rw [hk]; exact hc)).2.2.1
  omega
theorem gH.lt (H : gH s0 F b P g h) {n c i : Nat} (hk : g.kind n = (c, i)) (hc : c ≠ 0) : n < h.2.1 := (H.1 n (by rw [hk]; exact hc)).2.2.2.1
theorem gH.new (H : gH s0 F b P g h) {n c i : Nat} (hk : g.kind n = (c, i)) (hc : c ≠ 0) (h40 : c ≠ 40) : s0.1.heap.size < n := by
  have := (H.1 n (by rw [hk]; exact hc)).2.2.2.2
  rw [hk] at this
  exact this.resolve_left h40
theorem gH.less {b' : Nat} (H : gH s0 F b P g h) (hb : b' ≤ b) : gH s0 F b' P g h := by
  obtain ⟨a1, a2, a3, a4⟩ := H
  exact ⟨a1, a2, by omega, by omega⟩
/-- some cells are written: ns; what they hold is what the new pictures say, the others' pictures are as they were -/
theorem gH.re (H : gH s0 F b P g h) (ns : List Nat) (h2 : h'.2 = h.2) (hk : g'.kind = g.kind) (hr : g'.ref = g.ref) (ho : ∀ n, n ∉ ns → h'.1 n = h.1 n) (hn : ∀ n ∈ ns, (g.kind n).1 ≠ 0 ∧ h'.1 n = some (P' (g.kind n).1 (g.kind n).2))
    (hP : ∀ n, (g.kind n).1 ≠ 0 → n ∉ ns → P' (g.kind n).1 (g.kind n).2 = P (g.kind n).1 (g.kind n).2) : gH s0 F b P' g' h' := by
  obtain ⟨a1, a2, a3⟩ := H
  refine ⟨fun n hc => ?_, fun n q hq => ?_, ?_⟩
  · rw [hk] at hc ⊢
    obtain ⟨e1, e2, e3, e4, e5⟩ := a1 n hc
    rw [hr, h2]
    refine ⟨?_, e2, e3, e4, e5⟩
    by_cases hm : n ∈ ns
    · exact (hn n hm).2
    · rw [ho n hm, e1, hP n hc hm]
  · obtain ⟨e1, e2, e3⟩ := a2 n q hq
    rw [hk, h2]
    refine ⟨?_, e2, e3⟩
    rw [ho n (fun hm => (hn n hm).1 e2)]
    exact e1
  · unfold zBud at a3 ⊢
    rw [h2]
    exact a3
/-- one field is written -/
theorem gH.put (H : gH s0 F b P g h) {n c i k : Nat} {v : Value} {cc : Nat} {fs : List Value} (hk : g.kind n = (c, i)) (hc : c ≠ 0) (hkk : g'.kind = g.kind) (hr : g'.ref = g.ref) (hp : P c i = (cc, fs)) (hp' : P' c i = (cc, fs.set k v))
    (hP : ∀ m, (g.kind m).1 ≠ 0 → g.kind m ≠ (c, i) → P' (g.kind m).1 (g.kind m).2 = P (g.kind m).1 (g.kind m).2) : gH s0 F b P' g' (zput h n k v) := by
  refine H.re [n] rfl hkk hr (fun m hm => zput_ne (by simpa using hm)) (fun m hm => ?_) (fun m hm hne => hP m hm fun e => ?_)
  · rw [List.mem_singleton.mp hm, hk]
    refine ⟨hc, ?_⟩
    rw [hp']
    have := H.cell hk hc
    rw [hp] at this
    exact zput_self this
  · have e1 : g.kind m = (c, i) := e
    have := H.at e1 hc
    rw [H.at hk hc] at this
    exact hne (by rw [this]; exact List.mem_singleton.mpr rfl)
/-- what is none of these is written -/
theorem gH.putF (H : gH s0 F b P g h) {n k : Nat} {v : Value} (hk : (g.kind n).1 = 0) (hF : F n = none) : gH s0 F b P g (zput h n k v) := by
  obtain ⟨a1, a2, a3⟩ := H
  refine ⟨fun m hc => ?_, fun m q hq => ?_, a3⟩
  · obtain ⟨e1, e2⟩ := a1 m hc
    exact ⟨by rw [zput_ne (fun e => hc (by rw [e]; exact hk))]; exact e1, e2⟩
  · obtain ⟨e1, e2⟩ := a2 m q hq
    exact ⟨by rw [zput_ne (fun e => by rw [e, hF] at hq; cases hq)]; exact e1, e2⟩
/-- a new cell, none of these as yet -/
theorem gH.znew {u : Nat} (H : gH s0 F (b + u) P g h) {c : Nat} {fs : List Value} {w : Nat} (hu : 1 ≤ u) (hw : w ≤ 6 * u) : gH s0 F b P g (znew h c fs w) ∧ zroom s0 h w ∧ (g.kind h.2.1).1 = 0 ∧ F h.2.1 = none ∧ s0.1.heap.size + 953998 ≥ h.2.1 + 1 := by
  obtain ⟨a1, a2, a3, a4⟩ := H
  have k0 : (g.kind h.2.1).1 = 0 := by
    by_cases e : (g.kind h.2.1).1 = 0
    · exact e
    · have := (a1 _ e).2.2.2.1
      omega
  have f0 : F h.2.1 = none := by
    cases hq : F h.2.1 with
    | none => rfl
    | some q =>
      have := (a2 _ q hq).2.2
      omega
  refine ⟨⟨fun m hc => ?_, fun m q hq => ?_, ?_⟩, ⟨by omega, by omega⟩, k0, f0, by omega⟩
  · obtain ⟨e1, e2, e3, e4, e5⟩ := a1 m hc
    exact ⟨by rw [znew_ne (by omega)]; exact e1, e2, e3, Nat.lt_succ_of_lt e4, e5⟩
  · obtain ⟨e1, e2, e3⟩ := a2 m q hq
    exact ⟨by rw [znew_ne (by omega)]; exact e1, e2, Nat.lt_succ_of_lt e3⟩
  · refine ⟨?_, ?_⟩
    · show h.2.1 + 1 + b ≤ _
      omega
    · show h.2.2 + w + 6 * b ≤ _
      omega
/-- a cell that was none of these becomes one; nothing else changes -/
theorem gH.take (H : gH s0 F b P g h) {n c i : Nat} {q : zC} (hk : (g.kind n).1 = 0) (hF : F n = none) (hn : h.1 n = some q) (hc : c ≠ 0) (hpos : 0 < n) (hlt : n < h.2.1) (hold : c = 40 ∨ s0.1.heap.size < n)
    (hkk : g'.kind = fun m => if m = n then (c, i) else g.kind m) (hr : g'.ref c i = n) (hr' : ∀ m, (g.kind m).1 ≠ 0 → g'.ref (g.kind m).1 (g.kind m).2 = g.ref (g.kind m).1 (g.kind m).2) (hp : P' c i = q)
    (hP : ∀ m, (g.kind m).1 ≠ 0 → P' (g.kind m).1 (g.kind m).2 = P (g.kind m).1 (g.kind m).2) : gH s0 F b P' g' h := by
  obtain ⟨a1, a2, a3⟩ := H
  refine ⟨fun m hm => ?_, fun m q' hq => ?_, a3⟩
  · rw [hkk] at hm ⊢
    by_cases e : m = n
    · subst e
      simp only [if_true]
      rw [hp, hr]
      exact ⟨hn, rfl, hpos, hlt, hold⟩
    · simp only [if_neg e] at hm ⊢
      rw [hP m hm, hr' m hm]
      exact a1 m hm
  · obtain ⟨e1, e2, e3⟩ := a2 m q' hq
    have hne : m ≠ n := fun e => by rw [e, hF] at hq; cases hq
    rw [hkk]
    simp only [if_neg hne]
    exact ⟨e1, e2, e3⟩
/-- a cell is given up -/
theorem gH.drop (H : gH s0 F b P g h) (hkk : ∀ m, g'.kind m = g.kind m ∨ (g'.kind m).1 = 0) (hr : ∀ m, (g'.kind m).1 ≠ 0 → g'.ref (g'.kind m).1 (g'.kind m).2 = m) (hP : ∀ m, (g'.kind m).1 ≠ 0 → P' (g'.kind m).1 (g'.kind m).2 = P (g.kind m).1 (g.kind m).2) : gH s0 F b P' g' h := by
  obtain ⟨a1, a2, a3⟩ := H
  refine ⟨fun m hm => ?_, fun m q hq => ?_, a3⟩
  · rcases hkk m with e | e
    · obtain ⟨e1, e2, e3⟩ := a1 m (by rw [← e]; exact hm)
      refine ⟨?_, hr m hm, ?_⟩
      · rw [hP m hm]; exact e1
      · rw [e]; exact e3
    · exact absurd e hm
  · obtain ⟨e1, e2, e3⟩ := a2 m q hq
    refine ⟨e1, ?_, e3⟩
    rcases hkk m with e | e
    · rw [e]; exact e2
    · exact e
end GH
