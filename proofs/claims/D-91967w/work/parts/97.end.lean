theorem pu_endmark : True := trivial
