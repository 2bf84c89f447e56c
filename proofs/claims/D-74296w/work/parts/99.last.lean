theorem zz_last : True := by
  have := @ct_reads
  have := @ct_letLine
  have := @ct_moveLine
  trivial
