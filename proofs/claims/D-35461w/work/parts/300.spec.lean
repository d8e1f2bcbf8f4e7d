/-! SPEC 1: what both sides compute, over the reference's data D (field, index) -/
set_option maxRecDepth 100000
abbrev ZD : Type := Nat → Int → Int
def up (D : ZD) (j : Nat) (i v : Int) : ZD := fun j2 i2 => if j2 = j ∧ i2 = i then v else D j2 i2
def bb (b : Bool) : Int := if b then 1 else 0
/-- one part behind the other, while they match -/
def al {S : Type} (M : Int → Int → S → Int × S) : List (Int × Int) → S → Int × S
  | [], s => (1, s)
  | c :: t, s => if (M c.1 c.2 s).1 = 1 then al M t (M c.1 c.2 s).2 else M c.1 c.2 s
def prt (D : ZD) (n k : Int) : Int := D 13 (3 * n + k)
/-- a pattern's parts with their places -/
def chs (D : ZD) (n p j : Int) : List (Int × Int) := ([0, 1, 2] : List Int).filterMap fun k => if prt D n k = -1 then none else some (prt D n k, 5 * p + j + k + 1)
def fitl (D : ZD) (n x : Int) : Bool := if D 12 n = 0 then decide (x = D 11 n) else decide (D 11 n ≤ x)
def begl (D : ZD) (n x : Int) : Int := if D 12 n = 2 then x - D 11 n else 0
/-- a view's pattern and a number -/
def hold {σ : Type} (D : ZD) (C : σ → σ) : Nat → Int → Int → σ → Bool × σ
  | 0, _, _, s => (false, s)
  | f + 1, n, x, s =>
    if D 10 n = 4 then (if (hold D C f (prt D n 0) x s).1 = true then hold D C f (prt D n 0) x s else hold D C f (prt D n 1) x (hold D C f (prt D n 0) x s).2)
    else if D 10 n = 2 then (decide (D 11 n ≤ x) && decide (x ≤ D 12 n), C s)
    else (true, s)
/-- a pattern at a place: 0 no, 1 yes, 2 asks. A: the fact at a place (of a kind), V: what a view gives, C: a number is held against a range of a view -/
def mt {σ : Type} (D : ZD) (A : Int → Int → σ → Int × σ) (V : Int → Int → σ → Int × σ) (C : σ → σ) : Nat → Int → Int → σ × (Int → Int) → Int × (σ × (Int → Int))
  | 0, _, _, s => (0, s)
  | f + 1, n, p, s =>
    if D 10 n = 1 then
      (if (mt D A V C f (prt D n 0) p s).1 = 1 then (1, ((mt D A V C f (prt D n 0) p s).2.1, fun x => if x = D 11 n then p else (mt D A V C f (prt D n 0) p s).2.2 x)) else mt D A V C f (prt D n 0) p s)
    else if D 10 n = 2 then
      (if (A p 4 s.1).1 = -1 then 2 else if D 11 n ≤ (A p 4 s.1).1 ∧ (A p 4 s.1).1 ≤ D 12 n then 1 else 0, ((A p 4 s.1).2, s.2))
    else if D 10 n = 3 then
      (if (A p (D 11 n / 4) s.1).1 = -1 then (2, ((A p (D 11 n / 4) s.1).2, s.2))
       else if (A p (D 11 n / 4) s.1).1 = D 11 n % 4 then al (mt D A V C f) (chs D n p 0) ((A p (D 11 n / 4) s.1).2, s.2)
       else (0, ((A p (D 11 n / 4) s.1).2, s.2)))
    else if D 10 n = 4 then
      (if (mt D A V C f (prt D n 0) p s).1 = 0 then mt D A V C f (prt D n 1) p (mt D A V C f (prt D n 0) p s).2 else mt D A V C f (prt D n 0) p s)
    else if D 10 n = 5 then
      (if (V (D 11 n) p s.1).1 = -1 then (2, ((V (D 11 n) p s.1).2, s.2))
       else (bb (hold D C 40 (prt D n 0) (V (D 11 n) p s.1).1 (V (D 11 n) p s.1).2).1, ((hold D C 40 (prt D n 0) (V (D 11 n) p s.1).1 (V (D 11 n) p s.1).2).2, s.2)))
    else if D 10 n = 6 then
      (if (A p 5 s.1).1 = -1 then (2, ((A p 5 s.1).2, s.2))
       else if fitl D n (A p 5 s.1).1 = true then al (mt D A V C f) (chs D n p (begl D n (A p 5 s.1).1)) ((A p 5 s.1).2, s.2)
       else (0, ((A p 5 s.1).2, s.2)))
    else (1, s)
/-- the columns of a case -/
def cols (D : ZD) (c : Int) : List (Int × Int) := (List.range (D 21 0).toNat).map fun (k : Nat) => (D 24 (3 * c + (k : Int)), (k : Int) + 1)
def mca {σ : Type} (D : ZD) (A : Int → Int → σ → Int × σ) (V : Int → Int → σ → Int × σ) (C : σ → σ) (c : Int) (s : σ) : Int × (σ × (Int → Int)) := al (mt D A V C 40) (cols D c) (s, fun _ => -1)
/-- the cases -/
def csl (D : ZD) : List Int := (List.range (D 23 0).toNat).map fun (k : Nat) => (k : Int)
/-! real runs: g: the values of the columns; state: tests, views run (view, place, gave) -/
def vl (D : ZD) (g : Int → Int) : Nat → Int → Int
  | 0, _ => 0
  | f + 1, p => if p ≤ 3 then g (p - 1) else if D 5 (vl D g f ((p - 1) / 5)) = 5 then -1 - D 7 (3 * vl D g f ((p - 1) / 5) + (p - 1) % 5) else D 7 (3 * vl D g f ((p - 1) / 5) + (p - 1) % 5)
def hd (D : ZD) (g : Int → Int) (p : Int) : Int := if vl D g 8 p < 0 then -1 - vl D g 8 p else D 6 (vl D g 8 p)
def ms (D : ZD) (g : Int → Int) (p : Int) : Int := if vl D g 8 p < 0 then -1 - vl D g 8 p else D 8 (vl D g 8 p)
abbrev RS : Type := Int × List (Int × Int × Int)
def tick (b : Bool) (s : RS) : RS := if b then (w32 (s.1 + 1), s.2) else s
def rA (D : ZD) (g : Int → Int) (b : Bool) (p _k : Int) (s : RS) : Int × RS := (hd D g p, tick b s)
def fnd (l : List (Int × Int × Int)) (v p : Int) : Option Int := (l.find? fun x => decide (x.1 = v) && decide (x.2.1 = p)).map fun x => x.2.2
def gv (D : ZD) (g : Int → Int) (v p : Int) (n : Nat) : Int := (D 20 (4 * v) * ms D g p + D 20 (4 * v + 1) * (n : Int) + D 20 (4 * v + 2)) % D 20 (4 * v + 3)
def rV (D : ZD) (g : Int → Int) (v p : Int) (s : RS) : Int × RS := match fnd s.2 v p with
  | some x => (x, s)
  | none => (gv D g v p s.2.length, (s.1, s.2 ++ [(v, p, gv D g v p s.2.length)]))
def rmc (D : ZD) (g : Int → Int) (b : Bool) (c : Int) (s : RS) : Int × (RS × (Int → Int)) := mca D (rA D g b) (rV D g) (tick b) c s
/-- how a guard goes out by the names: 0 holds, 1 fails, 2 raises -/
def gd (D : ZD) (g : Int → Int) (b : Int → Int) (c : Int) : Int :=
  if D 26 c = -1 then 0 else if D 26 c = 0 then (if hd D g (b (D 27 c)) < D 28 c then 0 else 1)
  else if D 26 c = 1 then (if hd D g (b (D 27 c)) = D 28 c then 0 else 1)
  else if D 26 c = 2 then (if D 28 c < hd D g (b (D 27 c)) then 0 else 1)
  else (if hd D g (b (D 27 c)) = D 28 c then 2 else 0)
/-- cases one behind the other: the case taken with its names -/
def plain (D : ZD) (g : Int → Int) : List Int → RS → Option (Int × (Int → Int)) × RS
  | [], s => (none, s)
  | c :: t, s => if (rmc D g true c s).1 = 1 ∧ gd D g (rmc D g true c s).2.2 c ≠ 1 then (some (c, (rmc D g true c s).2.2), (rmc D g true c s).2.1) else plain D g t (rmc D g true c s).2.1
/-! trees: a node is the way to it, the last step first: (asked: 3 guard, 4 view, 5 place; what; place; branch) -/
abbrev PT : Type := List (Int × Int × Int × Int)
def fa : PT → Int → Int
  | [], _ => -1
  | st :: e, p => if fa e p = -1 then (if st.1 = 5 ∧ st.2.2.1 = p then st.2.2.2 else -1) else fa e p
def fv : PT → Int → Int → Int
  | [], _, _ => -1
  | st :: e, v, p => if fv e v p = -1 then (if st.1 = 4 ∧ st.2.1 = v ∧ st.2.2.1 = p then st.2.2.2 else -1) else fv e v p
def ff : PT → Int → Bool
  | [], _ => false
  | st :: e, c => ff e c || (decide (st.1 = 3) && decide (st.2.1 = c) && decide (0 < st.2.2.2))
abbrev TS : Type := Int × Int × Int
def tA (e : PT) (p k : Int) (s : TS) : Int × TS := (fa e p, if fa e p = -1 then (5, k, p) else s)
def tV (e : PT) (v p : Int) (s : TS) : Int × TS := (fv e v p, if fv e v p = -1 then (4, v, p) else s)
def tmc (D : ZD) (e : PT) (c : Int) (s : TS) : Int × (TS × (Int → Int)) := mca D (tA e) (tV e) (fun s => s) c s
def scan (D : ZD) (e : PT) : List Int → Option (Int × Int × TS)
  | [] => none
  | c :: t => if ff e c = true then scan D e t else if (tmc D e c (0, 0, 0)).1 = 0 then scan D e t else some (c, (tmc D e c (0, 0, 0)).1, (tmc D e c (0, 0, 0)).2.1)
/-- the places that a pattern needs -/
def ndl (D : ZD) (e : PT) : Nat → Int → Int → List Int
  | 0, _, _ => []
  | f + 1, n, p =>
    if D 10 n = 1 then ndl D e f (prt D n 0) p
    else if D 10 n = 4 then ndl D e f (prt D n 0) p ++ ndl D e f (prt D n 1) p
    else if D 10 n = 2 then (if fa e p = -1 then [p] else [])
    else if D 10 n = 3 then (if fa e p = -1 then [p] else if fa e p = D 11 n % 4 then (chs D n p 0).flatMap (fun x => ndl D e f x.1 x.2) else [])
    else if D 10 n = 6 then (if fa e p = -1 then [p] else if fitl D n (fa e p) = true then (chs D n p (begl D n (fa e p))).flatMap (fun x => ndl D e f x.1 x.2) else [])
    else []
def ndc (D : ZD) (e : PT) (c : Int) : List Int := (cols D c).flatMap fun x => ndl D e 40 x.1 x.2
def elig (D : ZD) (e : PT) (c : Int) : Bool := !ff e c && decide ((tmc D e c (0, 0, 0)).1 ≠ 0)
def cntp (D : ZD) (e : PT) (p : Int) : Nat := ((csl D).filter fun c => elig D e c && (ndc D e c).contains p).length
def allp (D : ZD) (e : PT) : List Int := (csl D).flatMap fun c => if elig D e c then ndc D e c else []
/-- the best one: the greatest count, then the least place -/
def argb (w : Int → Nat) : List Int → Int
  | [] => 0
  | [p] => p
  | p :: q :: t => if w (argb w (q :: t)) < w p ∨ (w (argb w (q :: t)) = w p ∧ p ≤ argb w (q :: t)) then p else argb w (q :: t)
def best (D : ZD) (e : PT) : Int := argb (cntp D e) (allp D e)
/-- the kind of a place, by what is known -/
def kd (D : ZD) (e : PT) : Nat → Int → Int
  | 0, _ => 0
  | f + 1, p => if p ≤ 3 then D 22 (p - 1) else if kd D e f ((p - 1) / 5) = 5 then 4 else D 3 (3 * (4 * kd D e f ((p - 1) / 5) + fa e ((p - 1) / 5)) + (p - 1) % 5)
def ways (D : ZD) (k : Int) : Int := if k = 4 then 10 else if k = 5 then 4 else D 1 k
/-- what a node asks: (2 nothing, 0 leaf, 1 raises, 3 guard, 4 view, 5 place; what; place; how many behind it) -/
def lab (D : ZD) (eng : Int) (e : PT) : Int × Int × Int × Int := match scan D e (csl D) with
  | none => (2, 0, 0, 0)
  | some (c, r, s) =>
    if r = 1 then (if D 26 c = -1 then (0, c, 0, 0) else (3, c, 0, 2))
    else if s.1 = 4 then (4, s.2.1, s.2.2, D 20 (4 * s.2.1 + 3))
    else if eng = 3 then (5, kd D e 8 (best D e), best D e, ways D (kd D e 8 (best D e)))
    else (5, kd D e 8 s.2.2, s.2.2, ways D (kd D e 8 s.2.2))
def nl (D : ZD) (eng : Int) : PT → Int × Int × Int × Int
  | [] => lab D eng []
  | st :: e => if st.1 = 3 ∧ st.2.2.2 = 0 then (0, st.2.1, 0, 0) else if st.1 = 3 ∧ D 26 st.2.1 = 3 then (1, st.2.1, 0, 0) else lab D eng (st :: e)
def chd (D : ZD) (eng : Int) (e : PT) : List PT := (List.range (nl D eng e).2.2.2.toNat).map fun (k : Nat) => ((nl D eng e).1, (nl D eng e).2.1, (nl D eng e).2.2.1, (k : Int)) :: e
/-- the nodes from one on, in the order in which the component makes them -/
def pre (D : ZD) (eng : Int) : Nat → PT → List PT
  | 0, e => [e]
  | f + 1, e => e :: (chd D eng e).flatMap (pre D eng f)
/-- the tree as it is shared: a code of what is behind a node -/
def cn (D : ZD) (eng : Int) : Nat → PT → List Int
  | 0, _ => []
  | f + 1, e =>
    if (nl D eng e).1 = 5 ∧ 0 < (nl D eng e).2.2.2 ∧ ∀ q ∈ chd D eng e, cn D eng f q = cn D eng f (((nl D eng e).1, (nl D eng e).2.1, (nl D eng e).2.2.1, 0) :: e)
    then cn D eng f (((nl D eng e).1, (nl D eng e).2.1, (nl D eng e).2.2.1, 0) :: e)
    else (nl D eng e).1 :: (nl D eng e).2.1 :: (nl D eng e).2.2.1 :: (nl D eng e).2.2.2 :: (chd D eng e).flatMap fun q => (((cn D eng f q).length : Int)) :: cn D eng f q
