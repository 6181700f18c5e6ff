/-! works: the state of all of them, and what each step makes of it -/
/-- a term of a library: letters, key, weights by documents -/
abbrev Trm : Type := List Int × Ky × (Nat → Int)
/-- of the queries: lists, flags of those that were checked, bits, keys, holders, orders; what records tell -/
abbrev Qs : Type := (Nat → List It) × (Nat → List Bool) × (Nat → List Int) × (Nat → Ky) × (Nat → Ky) × (Nat → List Nat) × (Nat → List Int)
/-- peers' part, lookups, words by the reference's arrays, queries -/
abbrev Ys : Type := Wd × (Nat → LkA) × VV × Qs
abbrev yw (Y : Ys) : Wd := Y.1
abbrev yl (Y : Ys) : Nat → LkA := Y.2.1
abbrev ys (Y : Ys) : VV := Y.2.2.1
abbrev yq (Y : Ys) : Qs := Y.2.2.2
abbrev qL (q : Qs) : Nat → List It := q.1
abbrev qF (q : Qs) : Nat → List Bool := q.2.1
abbrev qB (q : Qs) : Nat → List Int := q.2.2.1
abbrev qK (q : Qs) : Nat → Ky := q.2.2.2.1
abbrev qH (q : Qs) : Nat → Ky := q.2.2.2.2.1
abbrev qO (q : Qs) : Nat → List Nat := q.2.2.2.2.2.1
abbrev qR (q : Qs) : Nat → List Int := q.2.2.2.2.2.2
/-- a word of a work -/
abbrev yv (Y : Ys) (a t : Nat) : Int := vI (ys Y) a t
/-- a work's peer -/
def yp (Y : Ys) (t : Nat) : Nat := (vI (ys Y) 228 t).toNat
def setW (Y : Ys) (w : Wd) : Ys := (w, yl Y, ys Y, yq Y)
def setV (Y : Ys) (a t : Nat) (v : Int) : Ys := (yw Y, yl Y, st2 (ys Y) a t v, yq Y)
def setU (Y : Ys) (s : VV) : Ys := (yw Y, yl Y, s, yq Y)
def setK (Y : Ys) (q : Qs) : Ys := (yw Y, yl Y, ys Y, q)
/-- a work ends -/
def clS (t : Nat) (how : Int) (sc : VV) : VV := if vI sc 229 t < 0 then st2 sc 226 t 0 else st2 (st2 sc 226 t 0) 267 (vI sc 229 t).toNat how
def clY (t : Nat) (how : Int) (Y : Ys) : Ys := (dtW t (yw Y), yl Y, clS t how (ys Y), yq Y)
/-- a lookup begins -/
def lkY (m : Nat) (own : Nat → Ky) (t : Nat) (key : Ky) (vals : Bool) (Y : Ys) : Ys :=
  (dtW t (yw Y), fup (yl Y) t (key, vals, begE m (own (yp Y t)) (yp Y t) (wT (yw Y) (yp Y t)) key, 0), st2 (ys Y) 230 t 1, yq Y)
/-- the greatest number of leading bits that a contact has alike -/
def cloT (ow : Ky) (T : List Row) : Int := T.foldl (fun c x => if x.2.2 = false then max c (kc x.1 ow) else c) (-1)
def turnK (x : Ky) (i : Nat) : Ky := ky (fun j => if j = i / 32 then w32 (bxor (kf x j) (bshl 1 (31 - ((i % 32 : Nat) : Int)))) else kf x j)
/-- a refreshing goes on with the bit at hand -/
def rfY (m : Nat) (own : Nat → Ky) (t : Nat) (Y : Ys) : Ys := if yv Y 241 t < yv Y 242 t then clY t 1 Y else lkY m own t (turnK (own (yp Y t)) (yv Y 242 t).toNat) false Y
def brY (m : Nat) (own : Nat → Ky) (t : Nat) (Y : Ys) : Ys := rfY m own t (setV (setV Y 241 t (cloT (own (yp Y t)) (wT (yw Y) (yp Y t)))) 242 t 0)
/-- words that are told of a lookup -/
def fwE (F : List Ent) : List Int := F.flatMap (fun x => [eAdr x, (eKey x).1, (eKey x).2.1, (eKey x).2.2.1, (eKey x).2.2.2.1, (eKey x).2.2.2.2])
def tlQ (r : Nat) (l : List Int) (q : Qs) : Qs := (qL q, qF q, qB q, qK q, qH q, qO q, fup (qR q) r l)
/-- a record tells n rows -/
def tlY (t n : Nat) (l : List Int) (Y : Ys) : Ys := clY t 1 (yw Y, yl Y, st2 (ys Y) 269 (yv Y 229 t).toNat (n : Int), tlQ (yv Y 229 t).toNat l (yq Y))
/-! publishing -/
def isInT (lim : Nat) (x : Trm) : Bool := (List.range lim).any (fun d => decide (0 < x.2.2 d))
def pbT (lim : Nat) (L : List Trm) : List Trm := L.filter (isInT lim)
def pstT (p lim : Nat) (x : Trm) : List It := ((List.range lim).filter (fun d => decide (0 < x.2.2 d))).map (fun d : Nat => ((p : Int), (d : Int), x.2.2 d))
def trm0 : Trm := ([], (0, 0, 0, 0, 0), fun _ => 0)
/-- one more that a work asked -/
def raS (t : Nat) (sc : VV) : VV := if 0 ≤ vI sc 229 t then st2 sc 268 (vI sc 229 t).toNat (vI sc 268 (vI sc 229 t).toNat + 1) else sc
def stdS (t : Nat) (done : Bool) (sc : VV) : VV :=
  if done = true then (if 0 ≤ vI sc 229 t then st2 sc 269 (vI sc 229 t).toNat (vI sc 269 (vI sc 229 t).toNat + 1) else sc) else st2 sc 246 t 1
def stB (x : Trm) (p lim : Nat) : List Int := kbs x.2.1 ++ (((pstT p lim x).length : Nat) : Int) :: (pstT p lim x).flatMap be3
/-- a term's postings are stored by one of the front -/
def stoN (N : Nat) (own : Nat → Ky) (sd : Nat → Int) (tm : Int) (t p lim : Nat) (x : Trm) (s : Wd × VV) (e : Ent) : Wd × VV :=
  if eKey e = own p then
    match keepS x.2.1 (pstT p lim x) (tm + wst s.1 7) (wS s.1 p) with
    | some S' => (setS s.1 (fup (wS s.1) p S'), stdS t true s.2)
    | none => (setL s.1 (tlU (wtl s.1) (5 * p + 2)), stdS t false s.2)
  else
    ((askY N own sd tm s.1 p (eAdr e) 7 (eKey e) (stB x p lim) (some t) none).1, if (askY N own sd tm s.1 p (eAdr e) 7 (eKey e) (stB x p lim) (some t) none).2 = true then st2 (raS t s.2) 245 t (vI (raS t s.2) 245 t + 1) else st2 (raS t s.2) 246 t 1)
/-- the term at hand -/
def trY (Lb : Nat → List Trm) (t : Nat) (Y : Ys) : Trm := (pbT (yv Y 243 t).toNat (Lb (yp Y t))).getD (yv Y 244 t).toNat trm0
def stoY (m N : Nat) (own : Nat → Ky) (sd : Nat → Int) (tm : Int) (Lb : Nat → List Trm) (t : Nat) (Y : Ys) : Ys :=
  (((frontE m (yl Y t).2.2.1).foldl (stoN N own sd tm t (yp Y t) (yv Y 243 t).toNat (trY Lb t Y)) (dtW t (yw Y), st2 (st2 (ys Y) 230 t 2) 245 t 0)).1, yl Y, ((frontE m (yl Y t).2.2.1).foldl (stoN N own sd tm t (yp Y t) (yv Y 243 t).toNat (trY Lb t Y)) (dtW t (yw Y), st2 (st2 (ys Y) 230 t 2) 245 t 0)).2, yq Y)
def nxtY (m : Nat) (own : Nat → Ky) (Lb : Nat → List Trm) (t : Nat) (Y : Ys) : Ys :=
  if (yv Y 244 t + 1).toNat < (pbT (yv Y 243 t).toNat (Lb (yp Y t))).length then lkY m own t (trY Lb t (setV Y 244 t (yv Y 244 t + 1))).2.1 false (setV Y 244 t (yv Y 244 t + 1))
  else clY t (if yv Y 246 t = 0 then 1 else 2) (setV Y 244 t (-1))
/-! queries -/
def hcE (ow key : Ky) (S : List Post) (x : Ent) : Int := if eKey x = ow then (((choS key S).length : Nat) : Int) else eCnt x
def hldE (ow key : Ky) (S : List Post) (F : List Ent) : Option Ent := F.find? (fun x => decide (0 < hcE ow key S x))
/-- terms by their counts -/
def arrO (c : Nat → Int) : Nat → List Nat
  | 0 => []
  | n + 1 => (arrO c n).take (bk (fun y => decide (c n < c y)) 0 (arrO c n) (arrO c n).length) ++ n :: (arrO c n).drop (bk (fun y => decide (c n < c y)) 0 (arrO c n) (arrO c n).length)
def hdQ (i : Nat) (k : Ky) (q : Qs) : Qs := (qL q, qF q, qB q, qK q, fup (qH q) i k, qO q, qR q)
def arQ (t : Nat) (o : List Nat) (q : Qs) : Qs := (fup (qL q) t [], fup (qF q) t [], fup (qB q) t [], qK q, qH q, fup (qO q) t o, qR q)
/-- the holder of the term at hand is x: the next term, or what comes behind all -/
def hldZ (m : Nat) (own : Nat → Ky) (t i : Nat) (Y : Ys) : Ys :=
  if ((i + 1 : Nat) : Int) < yv Y 247 t then lkY m own t (qK (yq Y) (3 * t + i + 1)) true Y
  else (dtW t (yw Y), yl Y, st2 (st2 (ys Y) 254 t 0) 230 t (if yv Y 247 t = 1 then 4 else 3), arQ t (arrO (fun k => yv Y 252 (3 * t + k)) (yv Y 247 t).toNat) (yq Y))
def hldY (m : Nat) (own : Nat → Ky) (t : Nat) (Y : Ys) : Ys :=
  match hldE (own (yp Y t)) (qK (yq Y) (3 * t + (yv Y 248 t).toNat)) (wS (yw Y) (yp Y t)) (frontE m (yl Y t).2.2.1) with
  | none => tlY t 0 [] Y
  | some x => hldZ m own t (yv Y 248 t).toNat (yw Y, yl Y, st2 (st2 (st2 (ys Y) 250 (3 * t + (yv Y 248 t).toNat) (eAdr x)) 252 (3 * t + (yv Y 248 t).toNat) (hcE (own (yp Y t)) (qK (yq Y) (3 * t + (yv Y 248 t).toNat)) (wS (yw Y) (yp Y t)) x)) 248 t (yv Y 248 t + 1), hdQ (3 * t + (yv Y 248 t).toNat) (eKey x) (yq Y))
/-- the best of a list first -/
def rkM (x : It) : Nat := (1000 - x.2.2).toNat * 512 + x.1.toNat * 16 + x.2.1.toNat
def rnkY (t : Nat) (Y : Ys) : Ys := tlY t ((srt rkM (qL (yq Y) t)).take 60).length (((srt rkM (qL (yq Y) t)).take 60).flatMap be3) Y
def od (x : It) : Int × Int := (x.1, x.2.1)
def bitQ (t : Nat) (l : List Int) (q : Qs) : Qs := (qL q, qF q, fup (qB q) t l, qK q, qH q, qO q, qR q)
def lstQ (t : Nat) (l : List It) (f : List Bool) (q : Qs) : Qs := (fup (qL q) t l, fup (qF q) t f, qB q, qK q, qH q, qO q, qR q)
/-- BITS came -/
def tbY (t : Nat) (hs : Int) (bs : List Int) (Y : Ys) : Ys := (yw Y, yl Y, st2 (st2 (ys Y) 256 t hs) 230 t 4, bitQ t bs (yq Y))
def addL (L : List It) (x : It) : List It := if L.length = 200 ∨ od x ∈ L.map od then L else L ++ [x]
/-- MATCHES came -/
def tmY (t : Nat) (more : Bool) (tl : List It) (Y : Ys) : Ys :=
  if more = true ∧ (tl.foldl addL (qL (yq Y) t)).length < 200 then (yw Y, yl Y, st2 (ys Y) 254 t (yv Y 254 t + (tl.length : Int)), lstQ t (tl.foldl addL (qL (yq Y) t)) [] (yq Y))
  else if tl.foldl addL (qL (yq Y) t) = [] ∨ yv Y 247 t = 1 then rnkY t (yw Y, yl Y, st2 (ys Y) 254 t (yv Y 254 t + (tl.length : Int)), lstQ t (tl.foldl addL (qL (yq Y) t)) [] (yq Y))
  else (yw Y, yl Y, st2 (st2 (st2 (st2 (ys Y) 254 t (yv Y 254 t + (tl.length : Int))) 263 t 0) 264 t 0) 230 t 5, lstQ t (tl.foldl addL (qL (yq Y) t)) [] (yq Y))
def chk1 (tl : List It) (y : It) : It := match tl.find? (fun z => decide (od z = od y)) with | some z => (y.1, y.2.1, y.2.2 + z.2.2) | none => y
def chkB (tl : List It) (y : It) : Bool := decide (od y ∈ tl.map od)
/-- those that stay -/
def sftL (L : List It) (f : List Bool) : List It := ((L.zip f).filter (fun z => z.2)).map (fun z => z.1)
/-- a CHECK came: the list with its scores, the flags -/
def tcL (f : Nat) (tl : List It) (L : List It) : List It := L.take f ++ ((L.drop f).take 30).map (chk1 tl) ++ (L.drop f).drop 30
def tcF (f : Nat) (tl : List It) (L : List It) (F : List Bool) : List Bool := F ++ ((L.drop f).take 30).map (chkB tl)
def tcY (t : Nat) (tl : List It) (Y : Ys) : Ys :=
  if (yv Y 264 t).toNat + 30 < (qL (yq Y) t).length then (yw Y, yl Y, st2 (ys Y) 264 t (yv Y 264 t + 30), lstQ t (tcL (yv Y 264 t).toNat tl (qL (yq Y) t)) (tcF (yv Y 264 t).toNat tl (qL (yq Y) t) (qF (yq Y) t)) (yq Y))
  else if sftL (tcL (yv Y 264 t).toNat tl (qL (yq Y) t)) (tcF (yv Y 264 t).toNat tl (qL (yq Y) t) (qF (yq Y) t)) = [] ∨ yv Y 247 t ≤ (if yv Y 263 t = 0 then 2 else 3) then
    rnkY t (yw Y, yl Y, st2 (st2 (ys Y) 263 t (if yv Y 263 t = 0 then 2 else 3)) 264 t 0, lstQ t (sftL (tcL (yv Y 264 t).toNat tl (qL (yq Y) t)) (tcF (yv Y 264 t).toNat tl (qL (yq Y) t) (qF (yq Y) t))) [] (yq Y))
  else (yw Y, yl Y, st2 (st2 (ys Y) 263 t (if yv Y 263 t = 0 then 2 else 3)) 264 t 0, lstQ t (sftL (tcL (yv Y 264 t).toNat tl (qL (yq Y) t)) (tcF (yv Y 264 t).toNat tl (qL (yq Y) t) (qF (yq Y) t))) [] (yq Y))
/-- the term whose holder is asked -/
def qI (Y : Ys) (t : Nat) : Nat := if yv Y 230 t = 3 then 0 else if yv Y 230 t = 4 then (if yv Y 247 t = 1 then 0 else 1) else (yv Y 263 t).toNat
def qQ (Y : Ys) (t : Nat) : Nat := 3 * t + (qO (yq Y) t).getD (qI Y t) 0
def askQ (N : Nat) (own : Nat → Ky) (sd : Nat → Int) (tm : Int) (t : Nat) (ty : Int) (bd : List Int) (Y : Ys) : Ys :=
  if (askY N own sd tm (dtW t (yw Y)) (yp Y t) (yv Y 250 (qQ Y t)) ty (qH (yq Y) (qQ Y t)) bd (some t) none).2 = true then ((askY N own sd tm (dtW t (yw Y)) (yp Y t) (yv Y 250 (qQ Y t)) ty (qH (yq Y) (qQ Y t)) bd (some t) none).1, yl Y, raS t (ys Y), yq Y)
  else clY t 2 ((askY N own sd tm (dtW t (yw Y)) (yp Y t) (yv Y 250 (qQ Y t)) ty (qH (yq Y) (qQ Y t)) bd (some t) none).1, yl Y, raS t (ys Y), yq Y)
def hsQ (Y : Ys) (t : Nat) : Int := if yv Y 247 t = 1 then wst (yw Y) 9 else yv Y 256 t
def chQ (Y : Ys) (t : Nat) : List It := ((qL (yq Y) t).drop (yv Y 264 t).toNat).take 30
def mtQ (Y : Ys) (t : Nat) : List Post := mtcS (hsQ Y t).toNat (qB (yq Y) t) (choS (qK (yq Y) (qQ Y t)) (wS (yw Y) (yp Y t)))
/-- what comes next is asked of a holder, or answered at once: whether it goes on -/
def qonY (N : Nat) (own : Nat → Ky) (sd : Nat → Int) (tm : Int) (t : Nat) (Y : Ys) : Bool × Ys :=
  if yv Y 230 t = 3 then
    if qH (yq Y) (qQ Y t) = own (yp Y t) then (true, tbY t (wst (yw Y) 9) (mkF (wst (yw Y) 9).toNat (choS (qK (yq Y) (qQ Y t)) (wS (yw Y) (yp Y t)))) (setW Y (dtW t (yw Y))))
    else (false, askQ N own sd tm t 9 (kbs (qK (yq Y) (qQ Y t))) Y)
  else if yv Y 230 t = 4 then
    if qH (yq Y) (qQ Y t) = own (yp Y t) then (true, tmY t (moreS (yv Y 254 t).toNat (mtQ Y t)) (pageS (yv Y 254 t).toNat (mtQ Y t)) (setW Y (dtW t (yw Y))))
    else (false, askQ N own sd tm t 11 (kbs (qK (yq Y) (qQ Y t)) ++ be (yv Y 254 t) 2 ++ (hsQ Y t :: be (((qB (yq Y) t).length : Nat) : Int) 2) ++ qB (yq Y) t) Y)
  else
    if qH (yq Y) (qQ Y t) = own (yp Y t) then (true, tcY t (chkS (qK (yq Y) (qQ Y t)) ((chQ Y t).map od) (wS (yw Y) (yp Y t))) (setW Y (dtW t (yw Y))))
    else (false, askQ N own sd tm t 13 (kbs (qK (yq Y) (qQ Y t)) ++ (((chQ Y t).length : Nat) : Int) :: (chQ Y t).flatMap (fun z => [z.1, z.2.1])) Y)
/-! all together -/
def setRow (sc : VV) (a : Nat) (f : Nat → Int) : VV := fun b j => if b = a then f j else sc b j
def lsY (Y : Ys) (t : Nat) : LSt := (yw Y, (yl Y t).2.2.1, (yl Y t).2.2.2, fun i => yv Y 268 i)
def putS (Y : Ys) (t : Nat) (s : LSt) : Ys := (s.1, fup (yl Y) t ((yl Y t).1, (yl Y t).2.1, s.2.1, s.2.2.1), setRow (ys Y) 268 s.2.2.2, yq Y)
/-- a lookup goes on: whether it is over -/
def lokY (m al N : Nat) (own : Nat → Ky) (sd : Nat → Int) (tm : Int) (t : Nat) (Y : Ys) : Bool × Ys :=
  ((lkOn m al N own sd tm (yp Y t) t (yv Y 229 t) (yl Y t).1 (yl Y t).2.1 65 (lsY Y t)).1, putS Y t (lkOn m al N own sd tm (yp Y t) t (yv Y 229 t) (yl Y t).1 (yl Y t).2.1 65 (lsY Y t)).2)
/-- what comes behind a lookup -/
def behY (m N : Nat) (own : Nat → Ky) (sd : Nat → Int) (tm : Int) (Lb : Nat → List Trm) (t : Nat) (Y : Ys) : Ys :=
  if yv Y 227 t = 0 ∨ yv Y 227 t = 4 then (if yv Y 242 t < 0 then brY m own t Y else rfY m own t (setV Y 242 t (yv Y 242 t + 1)))
  else if yv Y 227 t = 1 then tlY t (frontE m (yl Y t).2.2.1).length (fwE (frontE m (yl Y t).2.2.1)) Y
  else if yv Y 227 t = 2 then stoY m N own sd tm Lb t Y
  else hldY m own t Y
def prY (m al N : Nat) (own : Nat → Ky) (sd : Nat → Int) (tm : Int) (Lb : Nat → List Trm) (t : Nat) : Nat → Ys → Ys
  | 0, Y => Y
  | n + 1, Y =>
    if yv Y 226 t = 0 then Y
    else if yv Y 230 t = 1 then (if (lokY m al N own sd tm t Y).1 = true then prY m al N own sd tm Lb t n (behY m N own sd tm Lb t (lokY m al N own sd tm t Y).2) else (lokY m al N own sd tm t Y).2)
    else if yv Y 230 t = 2 then (if yv Y 245 t = 0 then prY m al N own sd tm Lb t n (nxtY m own Lb t Y) else Y)
    else (if (qonY N own sd tm t Y).1 = true then prY m al N own sd tm Lb t n (qonY N own sd tm t Y).2 else (qonY N own sd tm t Y).2)
