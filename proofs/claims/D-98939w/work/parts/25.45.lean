/-! PART 45: plain: the stack machine (under way) -/
set_option maxRecDepth 100000
/-- one code: P the parts' values, B 'by' of a number -/
def sStep (P : Nat → Int64) (B : Int64 → Int64) (c : Int32) (st : List Int64) : Option (List Int64) :=
  if c < 1000 then
    if c < 60 then
      if c < 40 then
        if c = 13 then some (1 :: st)
        else if c = 12 then (match st with
          | a :: r => some ((1 - a) :: r)
          | _ => none)
        else (match st with
          | b :: a :: r => some (sJoin c a b :: r)
          | _ => none)
      else some (P (c - 40).toNatClampNeg :: st)
    else (match st with
      | a :: r => some (B a :: r)
      | _ => none)
  else some ((c - 1000).toInt64 :: st)
def sRun (P : Nat → Int64) (B : Int64 → Int64) : List Int32 → List Int64 → Option (List Int64)
  | [], st => some st
  | c :: cs, st => match sStep P B c st with
    | some st1 => sRun P B cs st1
    | none => none
